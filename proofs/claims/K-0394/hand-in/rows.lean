section
/-! Quickener: both sides keep the same image, the same table and the same count: the relation is equality of the states. -/
def i_Rel (_ : Nat) (u : SX) (v : SY) : Prop := u = v
theorem i_up {k : Nat} {u : SX} {v : SY} (h : i_Rel k u v) : i_Rel (k + 3) u v := h

/-- a byte cast drops what is above the low eight bits, so a mask of 255 ahead of it changes nothing -/
theorem qk_and (b : Int32) : (b &&& 255).toInt8 = b.toInt8 := by
  have h : (255 : Int32).toInt8 = -1 := by decide
  rw [Int32.toInt8_and, h, Int8.and_neg_one]
/-- an index masked by 15 lies within 16 cells -/
theorem qk_and15 (y : Int32) : vp_in (y &&& 15) 16 := by
  have h : (y &&& 15).toBitVec.toNat < 16 := by
    rw [Int32.toBitVec_and, BitVec.toNat_and]
    exact Nat.lt_of_le_of_lt Nat.and_le_right (by decide)
  have e : (y &&& 15).toInt = (y &&& 15).toBitVec.toInt := rfl
  rw [vp_in_iff, e, BitVec.toInt_eq_toNat_of_lt (by omega)]
  omega
theorem qk_16 : nI 16 = 16 := by decide +kernel
theorem qk_in7 {x : Int32} (h0 : ¬ x < 0) (h7 : x ≤ 7) : vp_in x 8 := by
  obtain ⟨j, hj, rfl⟩ := nI_of2 (M := 7) (n := 7) (by decide) h0 h7
  exact vp_in_nI (by omega) (by decide)
theorem qk_in5 {x : Int32} (h0 : ¬ x < 0) (h5 : x ≤ 5) : vp_in x 8 ∧ vp_in (x + 1) 8 ∧ vp_in (x + 2) 8 := by
  obtain ⟨j, hj, rfl⟩ := nI_of2 (M := 5) (n := 5) (by decide) h0 h5
  have e2 : nI j + 2 = nI (j + 2) := nI_add j 2
  rw [nI_1, e2]
  exact ⟨vp_in_nI (by omega) (by decide), vp_in_nI (by omega) (by decide), vp_in_nI (by omega) (by decide)⟩

/-- the constructors' loops: one table for both -/
theorem qk_init (s : Int32) (c : Nat → Int32) : ∀ d j : Nat, j + d = 16 → ∀ t : Nat → Int32, ∃ t' : Nat → Int32, (∀ (post : SX → Prop) (f : Int32), post (0, c, t') → wX_init_22 post s f (d + 1) (nI j) c t) ∧ (∀ (post : SY → Prop) (f : Int32), post (f, c, t') → wY_init_22 post s f (d + 1) (nI j) c t) := by
  intro d
  induction d with
  | zero =>
    intro j hj t
    have h : (16 : Int32) ≤ nI j := by rw [← qk_16]; exact nI_le (by omega) (by omega)
    exact ⟨t, fun _ _ hp => br_t h hp, fun _ _ hp => br_t h hp⟩
  | succ d ih =>
    intro j hj t
    have h : ¬ (16 : Int32) ≤ nI j := by rw [← qk_16]; exact nI_ge (by omega) (by omega)
    have hi : vp_in (nI j) 16 := vp_in_nI (by omega) (by omega)
    obtain ⟨t', hX, hY⟩ := ih (j + 1) (by omega) (upd t (nI j).toNatClampNeg (vp_nar .char ((((s * ((2 * nI j) + 1)) + nI j).toUInt32 % 65536).toInt32)))
    refine ⟨t', fun post f hp => br_f h ⟨hi, fun a ea y ey => ?_⟩, fun post f hp => br_f h ⟨hi, fun a ea y ey => ?_⟩⟩
    · rw [ea, ey, nI_1 j]; exact hX post f hp
    · rw [ea, ey, nI_1 j]; exact hY post f hp
theorem i_vc0 (k0 : Int32) : wpX_init (fun u => wpY_init (fun v => i_Rel 1 u v) k0) k0 := by
  obtain ⟨t', hX, hY⟩ := qk_init k0 (fun _ => 0) 16 0 rfl (fun _ => 0)
  rw [nI_0] at hX hY
  exact ⟨17, hX _ 0 ⟨17, hY _ 0 rfl⟩⟩

theorem i_vc_put {k : Nat} {u : SX} {v : SY} (I : i_Rel k u v) (hk : k + 3 ≤ 1537) (v1 : Int32) (v2 : Int32) : wpX_put (fun r u' => wpY_put (fun r' v' => r' = r ∧ i_Rel (k + 3) u' v') v v1 v2) u v1 v2 := by
  cases I
  obtain ⟨f, a, t⟩ := u
  by_cases h0 : v1 < 0
  · exact br_t h0 (br_t h0 ⟨rfl, rfl⟩)
  · by_cases h7 : v1 ≤ 7
    · have hi : vp_in v1 8 := qk_in7 h0 h7
      refine br_f h0 (br_t h7 ⟨hi, fun x ex => ⟨hi, fun b eb => ?_⟩⟩)
      refine br_f h0 (br_t h7 ⟨hi, fun y ey => ⟨hi, fun b' eb' => ⟨ey.trans ex.symm, ?_⟩⟩⟩)
      rw [eb, eb', qk_and]
      exact rfl
    · exact br_f h0 (br_f h7 (br_f h0 (br_f h7 ⟨rfl, rfl⟩)))

/-- the image behind a resolution: the quick opcode and the value's two bytes at p -/
def qk_st (a : Nat → Int32) (p q x : Int32) : Nat → Int32 := upd (upd (upd a p.toNatClampNeg (vp_nar .byte q.toInt8.toInt32)) (p + 1).toNatClampNeg (vp_nar .byte (((x.toUInt32 >>> ((8 : Int32).toUInt32 &&& Int32.toUInt32 31)).toInt32).toInt8.toInt32))) (p + 2).toNatClampNeg (vp_nar .byte x.toInt8.toInt32)
theorem qk_X115 {post : Int32 → SX → Prop} {p x q f : Int32} {a t : Nat → Int32} (i0 : vp_in p 8) (i1 : vp_in (p + 1) 8) (i2 : vp_in (p + 2) 8) (H : post x (f + 1, qk_st a p q x, t)) : wX_exec_115 post p x q f a t := by
  refine ⟨i0, fun a1 e1 => ⟨i1, fun a2 e2 => ⟨i2, fun a3 e3 g eg => ?_⟩⟩⟩
  rw [e3, e2, e1, eg, qk_and]
  exact H
theorem qk_Y111 {post : Int32 → SY → Prop} {p o q f : Int32} {a t : Nat → Int32} (i0 : vp_in p 8) (i1 : vp_in (p + 1) 8) (i2 : vp_in (p + 2) 8) (H : post (t (o &&& 15).toNatClampNeg) (f + 1, qk_st a p q (t (o &&& 15).toNatClampNeg), t)) : wY_exec_111 post p o q f a t := by
  refine ⟨qk_and15 o, fun x ex => ⟨i0, fun a1 e1 => ⟨i1, fun a2 e2 => ⟨i2, fun a3 e3 g eg => ?_⟩⟩⟩⟩
  rw [e3, e2, e1, eg, ex]
  exact H
theorem i_vc_exec {k : Nat} {u : SX} {v : SY} (I : i_Rel k u v) (hk : k + 3 ≤ 1537) (v1 : Int32) : wpX_exec (fun r u' => wpY_exec (fun r' v' => r' = r ∧ i_Rel (k + 3) u' v') v v1) u v1 := by
  cases I
  obtain ⟨f, a, t⟩ := u
  by_cases h0 : v1 < 0
  · exact br_t h0 (br_t h0 ⟨rfl, rfl⟩)
  · by_cases h5 : v1 ≤ 5
    · obtain ⟨i0, i1, i2⟩ := qk_in5 h0 h5
      refine br_f h0 (br_t h5 ⟨i0, fun op eop => ⟨i1, fun hg ehg => ⟨i2, fun lw elw o eo => ?_⟩⟩⟩)
      rw [ehg, elw] at eo
      by_cases c1 : op = 204
      · have n19 : ¬ op = 19 := by rw [c1]; decide
        have n178 : ¬ op = 178 := by rw [c1]; decide
        refine br_t c1 (br_f h0 (br_t h5 ⟨i1, i2, fun o' eo' => ⟨i0, fun op' eop' => ?_⟩⟩))
        cases eop'.trans eop.symm
        cases eo'.trans eo.symm
        exact br_f n19 (br_f n178 (br_t c1 ⟨rfl, rfl⟩))
      · refine br_f c1 ?_
        by_cases c2 : op = 210
        · have n19 : ¬ op = 19 := by rw [c2]; decide
          have n178 : ¬ op = 178 := by rw [c2]; decide
          refine br_t c2 (br_f h0 (br_t h5 ⟨i1, i2, fun o' eo' => ⟨i0, fun op' eop' => ?_⟩⟩))
          cases eop'.trans eop.symm
          cases eo'.trans eo.symm
          exact br_f n19 (br_f n178 (br_f c1 (br_t c2 ⟨rfl, rfl⟩)))
        · refine br_f c2 ?_
          by_cases c3 : op = 19
          · refine br_t c3 ⟨qk_and15 o, fun x ex => br_t c3 (qk_X115 i0 i1 i2 ?_)⟩
            refine br_f h0 (br_t h5 ⟨i1, i2, fun o' eo' => ⟨i0, fun op' eop' => ?_⟩⟩)
            cases eop'.trans eop.symm
            cases eo'.trans eo.symm
            cases ex
            exact br_t c3 (qk_Y111 i0 i1 i2 ⟨rfl, rfl⟩)
          · refine br_f c3 ?_
            by_cases c4 : op = 178
            · refine br_t c4 ⟨qk_and15 o, fun x ex => br_f c3 (qk_X115 i0 i1 i2 ?_)⟩
              refine br_f h0 (br_t h5 ⟨i1, i2, fun o' eo' => ⟨i0, fun op' eop' => ?_⟩⟩)
              cases eop'.trans eop.symm
              cases eo'.trans eo.symm
              cases ex
              exact br_f c3 (br_t c4 (qk_Y111 i0 i1 i2 ⟨rfl, rfl⟩))
            · refine br_f c4 (br_f h0 (br_t h5 ⟨i1, i2, fun o' eo' => ⟨i0, fun op' eop' => ?_⟩⟩))
              cases eop'.trans eop.symm
              cases eo'.trans eo.symm
              exact br_f c3 (br_f c4 (br_f c1 (br_f c2 ⟨rfl, rfl⟩)))
    · exact br_f h0 (br_f h5 (br_f h0 (br_f h5 ⟨rfl, rfl⟩)))
theorem i_vc_opAt {k : Nat} {u : SX} {v : SY} (I : i_Rel k u v) (hk : k + 3 ≤ 1537) (v1 : Int32) : wpX_opAt (fun r => wpY_opAt (fun r' => r' = r ∧ i_Rel (k + 3) u v) v v1) u v1 := by
  cases I
  obtain ⟨f, a, t⟩ := u
  by_cases h0 : v1 < 0
  · exact br_t h0 (br_t h0 ⟨rfl, rfl⟩)
  · by_cases h7 : v1 ≤ 7
    · have hi : vp_in v1 8 := qk_in7 h0 h7
      exact br_f h0 (br_t h7 ⟨hi, br_f h0 (br_t h7 ⟨hi, rfl, rfl⟩)⟩)
    · exact br_f h0 (br_f h7 (br_f h0 (br_f h7 ⟨rfl, rfl⟩)))
theorem i_vc_resolves {k : Nat} {u : SX} {v : SY} (I : i_Rel k u v) (hk : k + 3 ≤ 1537) : wpX_resolves (fun r => wpY_resolves (fun r' => r' = r ∧ i_Rel (k + 3) u v) v) u := by
  cases I
  obtain ⟨f, a, t⟩ := u
  exact ⟨rfl, rfl⟩
end
