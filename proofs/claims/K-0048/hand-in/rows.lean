section
/-! ===== DepthPlot: the char cast, the byte cast, the depths as chars ===== -/
theorem zd_nar (x : Int32) : vp_nar .char x = x &&& 65535 := by rw [vp_nar_char, lg_i2c_mask]
theorem zd_char (x : Int32) : (x.toUInt32 % 65536).toInt32 = x &&& 65535 := by rw [lg_i2c_nf, lg_i2c_mask]
theorem zd_and2 (x : Int32) : x &&& 65535 &&& 65535 = x &&& 65535 := by
  rw [Int32.and_assoc, Int32.and_self]
/-- X masks the colour with 255 before its byte cast; the cast sees the low eight bits alone -/
theorem zd_col (x : Int32) : (x &&& 255).toInt8.toInt32 = x.toInt8.toInt32 := by
  have e : (x &&& 255).toInt8 = x.toInt8 := by
    apply Int8.toBitVec_inj.mp
    rw [Int32.toBitVec_toInt8, Int32.toBitVec_toInt8, Int32.toBitVec_and]
    apply BitVec.eq_of_getLsbD_eq
    intro i hi
    have hm : ∀ i < 8, (255 : Int32).toBitVec.getLsbD i = true := by decide
    have h32 : i < 32 := by omega
    rw [BitVec.getLsbD_signExtend, BitVec.getLsbD_signExtend, if_pos h32, if_pos h32, BitVec.getLsbD_and, hm i hi, Bool.and_true]
  rw [e]
/-- every depth that is held is a char -/
def zd_Inv (a : Nat → Int32) : Prop := ∀ j : Nat, a j &&& 65535 = a j
theorem zd_inv0 : zd_Inv (fun _ => 0) := fun _ => show (0 : Int32) &&& 65535 = 0 by decide
theorem zd_upd {a : Nat → Int32} {k : Nat} {x : Int32} (h : zd_Inv a) (hx : x &&& 65535 = x) : zd_Inv (upd a k x) := by
  intro j
  show (if j = k then x else a j) &&& 65535 = (if j = k then x else a j)
  by_cases e : j = k
  · rw [if_pos e]; exact hx
  · rw [if_neg e]; exact h j
theorem zd_ff : vp_nar .char 65535 &&& 65535 = vp_nar .char 65535 := by rw [zd_nar, zd_and2]
theorem zd_8 : nI 8 = 8 := by decide +kernel
theorem zd_in {x : Int32} (h0 : ¬ x < 0) (h7 : x ≤ 7) : vp_in x 8 := by
  obtain ⟨j, hj, e⟩ := nI_of2 (M := 7) (n := 7) (by decide) h0 h7
  rw [e]
  exact vp_in_nI (by omega) (by omega)
end
section
/-- both objects hold the same two arrays, and every depth is a char -/
def i_Rel (_ : Nat) (u : SX) (v : SY) : Prop := u = v ∧ zd_Inv u.1
theorem zd_rel {k : Nat} {a c : Nat → Int32} (h : zd_Inv a) : i_Rel k (a, c) (a, c) := And.intro rfl h
theorem i_up {k : Nat} {u : SX} {v : SY} (h : i_Rel k u v) : i_Rel (k + 4) u v := h
/-- X's constructor loop and Y's clear leave the same arrays -/
theorem zd_init : ∀ d j : Nat, j + d = 8 → ∀ (r : Int32) (a c : Nat → Int32), zd_Inv a → ∃ (r' : Int32) (a' c' : Nat → Int32), zd_Inv a' ∧ (∀ post : SX → Prop, post (a', c') → wX_init_22 post (d + 1) (nI j) a c) ∧ (∀ post : Int32 → SY → Prop, post r' (a', c') → wY_clear_4 post (d + 1) r (nI j) a c) := by
  intro d
  induction d with
  | zero =>
    intro j hj r a c ha
    have h : (8 : Int32) ≤ nI j := by rw [← zd_8]; exact nI_le (by omega) (by omega)
    exact ⟨r, a, c, ha, fun _ hp => br_t h hp, fun _ hp => br_t h hp⟩
  | succ d ih =>
    intro j hj r a c ha
    have h : ¬ (8 : Int32) ≤ nI j := by rw [← zd_8]; exact nI_ge (by omega) (by omega)
    have hi : vp_in (nI j) 8 := vp_in_nI (by omega) (by omega)
    by_cases z : a (nI j).toNatClampNeg = 65535
    · obtain ⟨r', a', c', hI, hX, hY⟩ := ih (j + 1) (by omega) r (upd a (nI j).toNatClampNeg (vp_nar .char 65535)) (upd c (nI j).toNatClampNeg (vp_nar .byte 0)) (zd_upd ha zd_ff)
      exact ⟨r', a', c', hI,
        fun post hp => br_f h (And.intro hi (nm_e (And.intro hi (nm_e (nm_r (nI_1 j) (hX post hp)))))),
        fun post hp => br_f h (And.intro hi (br_t z (And.intro hi (nm_e (And.intro hi (nm_e (nm_r (nI_1 j) (hY post hp))))))))⟩
    · obtain ⟨r', a', c', hI, hX, hY⟩ := ih (j + 1) (by omega) (r + 1) (upd a (nI j).toNatClampNeg (vp_nar .char 65535)) (upd c (nI j).toNatClampNeg (vp_nar .byte 0)) (zd_upd ha zd_ff)
      exact ⟨r', a', c', hI,
        fun post hp => br_f h (And.intro hi (nm_e (And.intro hi (nm_e (nm_r (nI_1 j) (hX post hp)))))),
        fun post hp => br_f h (And.intro hi (br_f z (nm_e (And.intro hi (nm_e (And.intro hi (nm_e (nm_r (nI_1 j) (hY post hp)))))))))⟩
/-- the two clears, in lockstep: one count, the same arrays -/
theorem zd_clear : ∀ d j : Nat, j + d = 8 → ∀ (r : Int32) (a c : Nat → Int32), zd_Inv a → ∃ (r' : Int32) (a' c' : Nat → Int32), zd_Inv a' ∧ (∀ post : Int32 → SX → Prop, post r' (a', c') → wX_clear_4 post (d + 1) r (nI j) a c) ∧ (∀ post : Int32 → SY → Prop, post r' (a', c') → wY_clear_4 post (d + 1) r (nI j) a c) := by
  intro d
  induction d with
  | zero =>
    intro j hj r a c ha
    have h : (8 : Int32) ≤ nI j := by rw [← zd_8]; exact nI_le (by omega) (by omega)
    exact ⟨r, a, c, ha, fun _ hp => br_t h hp, fun _ hp => br_t h hp⟩
  | succ d ih =>
    intro j hj r a c ha
    have h : ¬ (8 : Int32) ≤ nI j := by rw [← zd_8]; exact nI_ge (by omega) (by omega)
    have hi : vp_in (nI j) 8 := vp_in_nI (by omega) (by omega)
    by_cases z : a (nI j).toNatClampNeg = 65535
    · have zX : a (nI j).toNatClampNeg &&& 65535 = 65535 := (ha _).trans z
      obtain ⟨r', a', c', hI, hX, hY⟩ := ih (j + 1) (by omega) r (upd a (nI j).toNatClampNeg (vp_nar .char 65535)) (upd c (nI j).toNatClampNeg (vp_nar .byte 0)) (zd_upd ha zd_ff)
      exact ⟨r', a', c', hI,
        fun post hp => br_f h (And.intro hi (br_t zX (And.intro hi (nm_e (And.intro hi (nm_e (nm_r (nI_1 j) (hX post hp)))))))),
        fun post hp => br_f h (And.intro hi (br_t z (And.intro hi (nm_e (And.intro hi (nm_e (nm_r (nI_1 j) (hY post hp))))))))⟩
    · have zX : ¬ a (nI j).toNatClampNeg &&& 65535 = 65535 := fun e => z ((ha _).symm.trans e)
      obtain ⟨r', a', c', hI, hX, hY⟩ := ih (j + 1) (by omega) (r + 1) (upd a (nI j).toNatClampNeg (vp_nar .char 65535)) (upd c (nI j).toNatClampNeg (vp_nar .byte 0)) (zd_upd ha zd_ff)
      exact ⟨r', a', c', hI,
        fun post hp => br_f h (And.intro hi (br_f zX (nm_e (And.intro hi (nm_e (And.intro hi (nm_e (nm_r (nI_1 j) (hX post hp))))))))),
        fun post hp => br_f h (And.intro hi (br_f z (nm_e (And.intro hi (nm_e (And.intro hi (nm_e (nm_r (nI_1 j) (hY post hp)))))))))⟩
theorem i_vc0 : wpX_init (fun u => wpY_init (fun v => i_Rel 0 u v)) := by
  obtain ⟨r', a', c', hI, hX, hY⟩ := zd_init 8 0 rfl 0 (fun _ => 0) (fun _ => 0) zd_inv0
  rw [nI_0] at hX hY
  unfold wpX_init
  refine ⟨9, hX _ ?_⟩
  unfold wpY_init wpY_clear
  exact ⟨9, hY _ (zd_rel hI)⟩
theorem i_vc_plot {k : Nat} {u : SX} {v : SY} (I : i_Rel k u v) (hk : k + 4 ≤ 2048) (v1 : Int32) (v2 : Int32) (v3 : Int32) : wpX_plot (fun r u' => wpY_plot (fun r' v' => r' = r ∧ i_Rel (k + 4) u' v') v v1 v2 v3) u v1 v2 v3 := by
  obtain ⟨rfl, ha⟩ := I
  obtain ⟨a, c⟩ := u
  by_cases h0 : v1 < 0
  · exact br_t h0 (br_t h0 ⟨rfl, zd_rel ha⟩)
  · by_cases h7 : v1 ≤ 7
    · have hi : vp_in v1 8 := zd_in h0 h7
      have hd : a v1.toNatClampNeg &&& 65535 = a v1.toNatClampNeg := ha _
      by_cases hz : v2 &&& 65535 < a v1.toNatClampNeg
      · have e1 : upd a v1.toNatClampNeg (vp_nar .char (((v2 &&& 65535).toUInt32 % 65536).toInt32)) = upd a v1.toNatClampNeg (v2 &&& 65535) := by rw [zd_char, zd_nar, zd_and2, zd_and2]
        have e2 : upd a v1.toNatClampNeg (vp_nar .char (v2 &&& 65535)) = upd a v1.toNatClampNeg (v2 &&& 65535) := by rw [zd_nar, zd_and2]
        have e3 : upd c v1.toNatClampNeg (vp_nar .byte ((v3 &&& 255).toInt8.toInt32)) = upd c v1.toNatClampNeg (vp_nar .byte v3.toInt8.toInt32) := by rw [zd_col]
        refine br_f h0 (br_t h7 (nm_e (And.intro hi (nm_r hd (br_t hz (And.intro hi (nm_r e1 (And.intro hi (nm_r e3 ?_)))))))))
        exact br_f h0 (br_t h7 (nm_r (zd_char v2) (And.intro hi (br_t hz (And.intro hi (nm_r e2 (And.intro hi (nm_e ⟨rfl, zd_rel (zd_upd ha (zd_and2 v2))⟩))))))))
      · refine br_f h0 (br_t h7 (nm_e (And.intro hi (nm_r hd (br_f hz ?_)))))
        exact br_f h0 (br_t h7 (nm_r (zd_char v2) (And.intro hi (br_f hz ⟨rfl, zd_rel ha⟩))))
    · exact br_f h0 (br_f h7 (br_f h0 (br_f h7 ⟨rfl, zd_rel ha⟩)))
theorem i_vc_clear {k : Nat} {u : SX} {v : SY} (I : i_Rel k u v) (hk : k + 4 ≤ 2048) : wpX_clear (fun r u' => wpY_clear (fun r' v' => r' = r ∧ i_Rel (k + 4) u' v') v) u := by
  obtain ⟨rfl, ha⟩ := I
  obtain ⟨a, c⟩ := u
  obtain ⟨r', a', c', hI, hX, hY⟩ := zd_clear 8 0 rfl 0 a c ha
  rw [nI_0] at hX hY
  unfold wpX_clear
  refine ⟨9, hX _ ?_⟩
  unfold wpY_clear
  exact ⟨9, hY _ ⟨rfl, zd_rel hI⟩⟩
theorem i_vc_colour {k : Nat} {u : SX} {v : SY} (I : i_Rel k u v) (hk : k + 4 ≤ 2048) (v1 : Int32) : wpX_colour (fun r => wpY_colour (fun r' => r' = r ∧ i_Rel (k + 4) u v) v v1) u v1 := by
  obtain ⟨rfl, ha⟩ := I
  obtain ⟨a, c⟩ := u
  by_cases h0 : v1 < 0
  · exact br_t h0 (br_t h0 ⟨rfl, zd_rel ha⟩)
  · by_cases h7 : v1 ≤ 7
    · have hi : vp_in v1 8 := zd_in h0 h7
      exact br_f h0 (br_t h7 (And.intro hi (br_f h0 (br_t h7 (And.intro hi ⟨rfl, zd_rel ha⟩)))))
    · exact br_f h0 (br_f h7 (br_f h0 (br_f h7 ⟨rfl, zd_rel ha⟩)))
theorem i_vc_depth {k : Nat} {u : SX} {v : SY} (I : i_Rel k u v) (hk : k + 4 ≤ 2048) (v1 : Int32) : wpX_depth (fun r => wpY_depth (fun r' => r' = r ∧ i_Rel (k + 4) u v) v v1) u v1 := by
  obtain ⟨rfl, ha⟩ := I
  obtain ⟨a, c⟩ := u
  by_cases h0 : v1 < 0
  · exact br_t h0 (br_t h0 ⟨rfl, zd_rel ha⟩)
  · by_cases h7 : v1 ≤ 7
    · have hi : vp_in v1 8 := zd_in h0 h7
      exact br_f h0 (br_t h7 (And.intro hi (br_f h0 (br_t h7 (And.intro hi ⟨(ha _).symm, zd_rel ha⟩)))))
    · exact br_f h0 (br_f h7 (br_f h0 (br_f h7 ⟨rfl, zd_rel ha⟩)))
end
