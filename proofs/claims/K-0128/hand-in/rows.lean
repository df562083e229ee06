section
/-! rows pk_us, pk_un, pk_and, pk_andE: taken from the kit's rows to paste -/
theorem pk_us {f : Nat → Int32} {k : Nat} {x : Int32} : upd f k x k = x := if_pos rfl
theorem pk_un {f : Nat → Int32} {k j : Nat} {x : Int32} (h : j ≠ k) : upd f k x j = f j := if_neg h
theorem pk_and (x : Int32) {m : Int32} (k : Nat) (hm : m.toBitVec.toNat = 2 ^ k - 1) : x &&& m = nI (x.toBitVec.toNat % 2 ^ k) := by
  apply Int32.toBitVec_inj.mp
  apply BitVec.eq_of_toNat_eq
  rw [Int32.toBitVec_and, BitVec.toNat_and, hm, Nat.and_two_pow_sub_one_eq_mod]
  show _ = (BitVec.ofNat 32 _).toNat
  rw [BitVec.toNat_ofNat]
  exact (Nat.mod_eq_of_lt (Nat.lt_of_le_of_lt (Nat.mod_le _ _) x.toBitVec.isLt)).symm
theorem pk_andE (x : Int32) {m : Int32} (k : Nat) (hm : m.toBitVec.toNat = 2 ^ k - 1) : ∃ j : Nat, j < 2 ^ k ∧ x &&& m = nI j := ⟨_, Nat.mod_lt _ (Nat.two_pow_pos k), pk_and x k hm⟩

/-! ===== bytes without sign, and the product by alpha ===== -/
/-- x is one of 0 .. 255 -/
def ch_B (x : Int32) : Prop := ∃ j : Nat, j < 256 ∧ x = nI j
theorem ch_and (x : Int32) : ch_B (x &&& 255) := pk_andE x 8 (by decide)
/-- the product by alpha, as both sides reckon it -/
def ch_ta (x : Int32) : Int32 := if 2 * x < 256 then 2 * x else (2 * x) ^^^ 285
/-- what a byte cell holds when x is stored -/
def ch_by (x : Int32) : Int32 := vp_nar .byte x.toInt8.toInt32
/-- the cast to char -/
def ch_ch (x : Int32) : Int32 := (x.toUInt32 % 65536).toInt32

theorem ch_ta_all : ∀ j : Fin 256, ch_ta (nI j.val) &&& 255 = ch_ta (nI j.val) := by decide +kernel
theorem ch_by_all : ∀ j : Fin 256, (nI j.val).toInt8.toInt32.toInt8.toInt32 &&& 255 = nI j.val := by decide +kernel
theorem ch_ch_all : ∀ j : Fin 256, ((nI j.val).toUInt32 % 65536).toInt32 = nI j.val := by decide +kernel
theorem ch_vc_all : ∀ j : Fin 256, (nI j.val).toUInt32.toUInt16.toUInt32.toInt32 = nI j.val := by decide +kernel

theorem ch_ta_B {x : Int32} (h : ch_B x) : ch_B (ch_ta x) := by
  obtain ⟨j, hj, rfl⟩ := h
  have e := ch_ta_all ⟨j, hj⟩
  dsimp only at e
  rw [← e]
  exact ch_and _
theorem ch_by_e {x : Int32} (h : ch_B x) : ch_by x &&& 255 = x := by
  obtain ⟨j, hj, rfl⟩ := h
  exact ch_by_all ⟨j, hj⟩
theorem ch_ch_e {x : Int32} (h : ch_B x) : ch_ch x = x := by
  obtain ⟨j, hj, rfl⟩ := h
  exact ch_ch_all ⟨j, hj⟩
theorem ch_vc_e {x : Int32} (h : ch_B x) : vp_nar .char x = x := by
  obtain ⟨j, hj, rfl⟩ := h
  rw [vp_nar_char]
  exact ch_vc_all ⟨j, hj⟩
/-- a char cell that takes a byte holds it -/
theorem ch_st {x : Int32} (h : ch_B x) : vp_nar .char ((x.toUInt32 % 65536).toInt32) = x := by
  have e : (x.toUInt32 % 65536).toInt32 = x := ch_ch_e h
  rw [e, ch_vc_e h]
theorem ch_255 : nI 255 = 255 := by decide +kernel
end
section
/-! ===== each method's walk at its value ===== -/
theorem ch_xta {post : Int32 → Prop} {u : SX} {p : Int32} (h : post (ch_ta p)) : wpX_timesAlpha post u p := by
  obtain ⟨i, a⟩ := u
  unfold wpX_timesAlpha
  dsimp only
  intro x ex
  subst ex
  unfold ch_ta at h
  by_cases c : 2 * p < 256
  · rw [if_pos c] at h
    exact br_t c h
  · rw [if_neg c] at h
    exact br_f c (nm_e h)
theorem ch_yta {post : Int32 → Prop} {p : Int32} (h : post (ch_ta p)) : wpY_timesAlpha post p := by
  unfold wpY_timesAlpha
  intro x ex
  rw [Int32.mul_comm] at ex
  subst ex
  unfold ch_ta at h
  by_cases c : 2 * p < 256
  · rw [if_pos c] at h
    exact br_t c h
  · rw [if_neg c] at h
    exact br_f c (nm_e h)

/-- the answer of a step, by the sum of the terms -/
def ch_ans (s : Int32) : Int32 := if s = 0 then 1 else 0
theorem ch_an {s : Int32} {P : Int32 → Prop} (h : P (ch_ans s)) : (s = 0 → P 1) ∧ (¬ s = 0 → P 0) := by
  unfold ch_ans at h
  by_cases c : s = 0
  · rw [if_pos c] at h
    exact br_t c h
  · rw [if_neg c] at h
    exact br_f c h

theorem ch_xstep {post : Int32 → SX → Prop} {i : Nat} {f p0 p1 p2 : Int32} {a : Nat → Int32} (hi : i < 255) (hf : f = nI i) (h0 : a 0 &&& 255 = p0) (h1 : a 1 &&& 255 = p1) (h2 : a 2 &&& 255 = p2)
    (h : post (ch_ans ((p0 ^^^ ch_ta p1) ^^^ ch_ta (ch_ta p2))) (nI (i + 1), upd (upd a 1 (ch_by (ch_ta p1))) 2 (ch_by (ch_ta (ch_ta p2))))) : wpX_step post (f, a) := by
  have hn : ¬ f = 255 := by
    rw [hf, ← ch_255, nI_eq (by omega) (by omega)]
    omega
  have hs : f + 1 = nI (i + 1) := by rw [hf, nI_1]
  unfold wpX_step
  dsimp only
  rw [h0, h1, h2]
  refine br_f hn (nm_r hs (nm_e (ch_xta (ch_xta (ch_xta (nm_e (nm_e ?_)))))))
  exact ch_an (P := fun r => post r (nI (i + 1), upd (upd a 1 (ch_by (ch_ta p1))) 2 (ch_by (ch_ta (ch_ta p2))))) h

theorem ch_ystep {post : Int32 → SY → Prop} {i : Nat} {g : Int32} {b : Nat → Int32} (hi : i < 255) (hg : g = nI i) (B1 : ch_B (b 1)) (B2 : ch_B (b 2))
    (h : post (ch_ans ((b 0 ^^^ ch_ta (b 1)) ^^^ ch_ta (ch_ta (b 2)))) (nI (i + 1), upd (upd b 1 (ch_ta (b 1))) 2 (ch_ta (ch_ta (b 2))))) : wpY_step post (g, b) := by
  have hl : g < 255 := by
    rw [hg, ← ch_255]
    exact nI_lt (by omega) (by omega)
  have hs : g + 1 = nI (i + 1) := by rw [hg, nI_1]
  have c1 : ((ch_ta (b 1)).toUInt32 % 65536).toInt32 = ch_ta (b 1) := ch_ch_e (ch_ta_B B1)
  have c2 : ((ch_ta (ch_ta (b 2))).toUInt32 % 65536).toInt32 = ch_ta (ch_ta (b 2)) := ch_ch_e (ch_ta_B (ch_ta_B B2))
  have v1 : vp_nar .char (ch_ta (b 1)) = ch_ta (b 1) := ch_vc_e (ch_ta_B B1)
  have v2 : vp_nar .char (ch_ta (ch_ta (b 2))) = ch_ta (ch_ta (b 2)) := ch_vc_e (ch_ta_B (ch_ta_B B2))
  unfold wpY_step
  dsimp only
  refine br_t hl (nm_r hs (nm_e (ch_yta ?_)))
  rw [c1, v1]
  refine nm_e (nm_e ?_)
  rw [pk_un (show (2 : Nat) ≠ 1 by decide)]
  refine ch_yta (ch_yta ?_)
  rw [c2, v2]
  refine nm_e (nm_e ?_)
  exact ch_an (P := fun r => post r (nI (i + 1), upd (upd b 1 (ch_ta (b 1))) 2 (ch_ta (ch_ta (b 2))))) h

/-! ===== the relation, and the lockstep of step and of roots' loop ===== -/
/-- both count i steps, and the reference's cells are the component's bytes without sign -/
def ch_R (i : Nat) (u : SX) (v : SY) : Prop := u.1 = nI i ∧ v.1 = nI i ∧ u.2 0 &&& 255 = v.2 0 ∧ u.2 1 &&& 255 = v.2 1 ∧ u.2 2 &&& 255 = v.2 2

/-- two stores of bytes, one a side, keep the cells' relation -/
theorem ch_upd {i : Nat} {a b : Nat → Int32} {x y : Int32} (h0 : a 0 &&& 255 = b 0) (X : ch_B x) (Y : ch_B y) : ch_R i (nI i, upd (upd a 1 (ch_by x)) 2 (ch_by y)) (nI i, upd (upd b 1 x) 2 y) := by
  refine ⟨rfl, rfl, ?_, ?_, ?_⟩
  · show upd (upd a 1 (ch_by x)) 2 (ch_by y) 0 &&& 255 = upd (upd b 1 x) 2 y 0
    rw [pk_un (by decide), pk_un (by decide), pk_un (by decide), pk_un (by decide)]
    exact h0
  · show upd (upd a 1 (ch_by x)) 2 (ch_by y) 1 &&& 255 = upd (upd b 1 x) 2 y 1
    rw [pk_un (by decide), pk_us, pk_un (by decide), pk_us]
    exact ch_by_e X
  · show upd (upd a 1 (ch_by x)) 2 (ch_by y) 2 &&& 255 = upd (upd b 1 x) 2 y 2
    rw [pk_us, pk_us]
    exact ch_by_e Y

theorem ch_step {i : Nat} {f g : Int32} {a b : Nat → Int32} (hi : i < 255) (R : ch_R i (f, a) (g, b)) : ∃ (r : Int32) (u' : SX) (v' : SY), ch_R (i + 1) u' v' ∧ (∀ post : Int32 → SX → Prop, post r u' → wpX_step post (f, a)) ∧ (∀ post : Int32 → SY → Prop, post r v' → wpY_step post (g, b)) := by
  obtain ⟨hf, hg, h0, h1, h2⟩ := R
  dsimp only at hf hg h0 h1 h2
  have B1 : ch_B (b 1) := by rw [← h1]; exact ch_and _
  have B2 : ch_B (b 2) := by rw [← h2]; exact ch_and _
  exact ⟨_, _, _, ch_upd h0 (ch_ta_B B1) (ch_ta_B (ch_ta_B B2)), fun post hp => ch_xstep hi hf h0 h1 h2 hp, fun post hp => ch_ystep hi hg B1 B2 hp⟩

theorem ch_loop : ∀ (d i : Nat) (c f g : Int32) (a b : Nat → Int32), i + d = 255 → ch_R i (f, a) (g, b) → ∃ (r : Int32) (u' : SX) (v' : SY), ch_R 255 u' v' ∧ (∀ post : Int32 → SX → Prop, post r u' → wX_roots_2 post (d + 1) c f a) ∧ (∀ post : Int32 → SY → Prop, post r v' → wY_roots_2 post (d + 1) c g b) := by
  intro d
  induction d with
  | zero =>
    intro i c f g a b hd R
    have hi : i = 255 := by omega
    subst hi
    have hf : f = 255 := R.1.trans ch_255
    have hg : 255 ≤ g := by
      have e : g = 255 := R.2.1.trans ch_255
      rw [e]
      decide
    exact ⟨c, (f, a), (g, b), R, fun post hp => br_t hf hp, fun post hp => br_t hg hp⟩
  | succ d ih =>
    intro i c f g a b hd R
    have hf : ¬ f = 255 := by
      have e : f = nI i := R.1
      rw [e, ← ch_255, nI_eq (by omega) (by omega)]
      omega
    have hg : ¬ 255 ≤ g := by
      have e : g = nI i := R.2.1
      rw [e, ← ch_255]
      exact nI_ge (by omega) (by omega)
    obtain ⟨r, ⟨f', a'⟩, ⟨g', b'⟩, R', hX, hY⟩ := ch_step (by omega) R
    by_cases hr : r = 1
    · obtain ⟨q, u', v', Q, kX, kY⟩ := ih (i + 1) (c + 1) f' g' a' b' (by omega) R'
      exact ⟨q, u', v', Q, fun post hp => br_f hf (hX _ (br_t hr (nm_e (kX post hp)))), fun post hp => br_f hg (hY _ (br_t hr (nm_e (kY post hp))))⟩
    · obtain ⟨q, u', v', Q, kX, kY⟩ := ih (i + 1) c f' g' a' b' (by omega) R'
      exact ⟨q, u', v', Q, fun post hp => br_f hf (hX _ (br_f hr (kX post hp))), fun post hp => br_f hg (hY _ (br_f hr (kY post hp)))⟩
end
section
/-! ===== what is owed ===== -/
/-- both count the same steps, 255 at most, and the reference's cells are the component's bytes without sign -/
def i_Rel (_ : Nat) (u : SX) (v : SY) : Prop := ∃ i : Nat, i ≤ 255 ∧ ch_R i u v
theorem i_up {k : Nat} {u : SX} {v : SY} (h : i_Rel k u v) : i_Rel (k + 3) u v := h
theorem i_vc0 : wpX_init (fun u => wpY_init (fun v => i_Rel 0 u v)) := by
  unfold wpX_init
  refine nm_e (nm_e (nm_e ?_))
  unfold wpY_init
  refine nm_e ?_
  exact ⟨0, by decide, by decide +kernel, by decide +kernel, by decide +kernel, by decide +kernel, by decide +kernel⟩
theorem i_vc_load {k : Nat} {u : SX} {v : SY} (I : i_Rel k u v) (hk : k + 3 ≤ 1536) (v1 : Int32) (v2 : Int32) : wpX_load (fun r u' => wpY_load (fun r' v' => r' = r ∧ i_Rel (k + 3) u' v') v v1 v2) u v1 v2 := by
  obtain ⟨f, a⟩ := u
  obtain ⟨g, b⟩ := v
  have B1 := ch_and v1
  have B2 := ch_and v2
  have one : vp_nar .byte 1 &&& 255 = vp_nar .char 1 := by decide +kernel
  have R : i_Rel (k + 3) (0, upd (upd (upd a 0 (vp_nar .byte 1)) 1 (ch_by (v1 &&& 255))) 2 (ch_by (v2 &&& 255))) (0, upd (upd (upd b 0 (vp_nar .char 1)) 1 (v1 &&& 255)) 2 (v2 &&& 255)) := by
    refine ⟨0, by decide, ?_⟩
    have h0 : upd a 0 (vp_nar .byte 1) 0 &&& 255 = upd b 0 (vp_nar .char 1) 0 := by
      rw [pk_us, pk_us]
      exact one
    have r := ch_upd (i := 0) h0 B1 B2
    rw [nI_0] at r
    exact r
  have yw : ∀ (s : Int32) (P : Int32 → SY → Prop), (v2 &&& 255 = 0 → v1 &&& 255 = 0 → s = 0) → (v2 &&& 255 = 0 → ¬ v1 &&& 255 = 0 → s = 1) → (¬ v2 &&& 255 = 0 → s = 2) → P s (0, upd (upd (upd b 0 (vp_nar .char 1)) 1 (v1 &&& 255)) 2 (v2 &&& 255)) → wpY_load P (g, b) v1 v2 := by
    intro s P e0 e1 e2 hp
    unfold wpY_load
    dsimp only
    rw [ch_st B1, ch_st B2]
    refine nm_e (nm_e (nm_e ?_))
    rw [pk_us, pk_un (show (1 : Nat) ≠ 2 by decide), pk_us]
    by_cases c2 : v2 &&& 255 = 0
    · refine br_t c2 ?_
      by_cases c1 : v1 &&& 255 = 0
      · rw [e0 c2 c1] at hp
        exact br_t c1 hp
      · rw [e1 c2 c1] at hp
        exact br_f c1 hp
    · rw [e2 c2] at hp
      exact br_f c2 hp
  unfold wpX_load
  dsimp only
  refine nm_e (nm_e (nm_e (nm_e (nm_e ?_))))
  by_cases c2 : v2 &&& 255 = 0
  · refine br_t c2 ?_
    by_cases c1 : v1 &&& 255 = 0
    · exact br_t c1 (yw 0 _ (fun _ _ => rfl) (fun _ z => absurd c1 z) (fun z => absurd c2 z) ⟨rfl, R⟩)
    · exact br_f c1 (yw 1 _ (fun _ z => absurd z c1) (fun _ _ => rfl) (fun z => absurd c2 z) ⟨rfl, R⟩)
  · exact br_f c2 (yw 2 _ (fun z => absurd z c2) (fun z => absurd z c2) (fun _ => rfl) ⟨rfl, R⟩)
theorem i_vc_step {k : Nat} {u : SX} {v : SY} (I : i_Rel k u v) (hk : k + 3 ≤ 1536) : wpX_step (fun r u' => wpY_step (fun r' v' => r' = r ∧ i_Rel (k + 3) u' v') v) u := by
  obtain ⟨f, a⟩ := u
  obtain ⟨g, b⟩ := v
  obtain ⟨i, hi, R⟩ := I
  by_cases h : i = 255
  · subst h
    have hf : f = 255 := R.1.trans ch_255
    have hg : ¬ g < 255 := by
      have e : g = 255 := R.2.1.trans ch_255
      rw [e]
      decide
    exact br_t hf (br_f hg ⟨rfl, 255, hi, R⟩)
  · obtain ⟨r, u', v', R', hX, hY⟩ := ch_step (by omega) R
    exact hX _ (hY _ ⟨rfl, i + 1, by omega, R'⟩)
theorem i_vc_roots {k : Nat} {u : SX} {v : SY} (I : i_Rel k u v) (hk : k + 3 ≤ 1536) : wpX_roots (fun r u' => wpY_roots (fun r' v' => r' = r ∧ i_Rel (k + 3) u' v') v) u := by
  obtain ⟨f, a⟩ := u
  obtain ⟨g, b⟩ := v
  obtain ⟨i, hi, R⟩ := I
  obtain ⟨r, u', v', R', hX, hY⟩ := ch_loop (255 - i) i 0 f g a b (by omega) R
  exact ⟨_, hX _ ⟨_, hY _ ⟨rfl, 255, Nat.le_refl _, R'⟩⟩⟩
theorem i_vc_term {k : Nat} {u : SX} {v : SY} (I : i_Rel k u v) (hk : k + 3 ≤ 1536) (v1 : Int32) : wpX_term (fun r => wpY_term (fun r' => r' = r ∧ i_Rel (k + 3) u v) v v1) u v1 := by
  obtain ⟨f, a⟩ := u
  obtain ⟨g, b⟩ := v
  have J : i_Rel (k + 3) (f, a) (g, b) := I
  obtain ⟨i, hi, hf, hg, h0, h1, h2⟩ := I
  dsimp only at hf hg h0 h1 h2
  by_cases c0 : v1 = 0
  · subst c0
    have e : b (0 : Int32).toNatClampNeg = a 0 &&& 255 := h0.symm
    exact br_t rfl (br_f (by decide) (br_f (by decide) (br_t (by decide) ⟨vp_in_iff.mpr (by decide), e, J⟩)))
  by_cases c1 : v1 = 1
  · subst c1
    have e : b (1 : Int32).toNatClampNeg = a 1 &&& 255 := h1.symm
    exact br_f c0 (br_t rfl (br_f (by decide) (br_f (by decide) (br_t (by decide) ⟨vp_in_iff.mpr (by decide), e, J⟩))))
  by_cases c2 : v1 = 2
  · subst c2
    have e : b (2 : Int32).toNatClampNeg = a 2 &&& 255 := h2.symm
    exact br_f c0 (br_f c1 (br_t rfl (br_f (by decide) (br_f (by decide) (br_t (by decide) ⟨vp_in_iff.mpr (by decide), e, J⟩)))))
  by_cases c3 : v1 = 3
  · exact br_f c0 (br_f c1 (br_f c2 (br_t c3 (br_t c3 ⟨hg.trans hf.symm, J⟩))))
  refine br_f c0 (br_f c1 (br_f c2 (br_f c3 (br_f c3 ?_))))
  by_cases n0 : v1 < 0
  · exact br_t n0 ⟨rfl, J⟩
  by_cases n3 : v1 ≤ 3
  · exfalso
    obtain ⟨j, hj, e⟩ := nI_of2 (M := 3) (n := 3) (by decide) n0 n3
    have z0 : nI 0 = 0 := by decide +kernel
    have z1 : nI 1 = 1 := by decide +kernel
    have z2 : nI 2 = 2 := by decide +kernel
    have z3 : nI 3 = 3 := by decide +kernel
    have hc : j = 0 ∨ j = 1 ∨ j = 2 ∨ j = 3 := by omega
    rcases hc with rfl | rfl | rfl | rfl
    · exact c0 (e.trans z0)
    · exact c1 (e.trans z1)
    · exact c2 (e.trans z2)
    · exact c3 (e.trans z3)
  · exact br_f n0 (br_f n3 ⟨rfl, J⟩)
end
