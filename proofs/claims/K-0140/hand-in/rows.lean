section
/-! the plain law: t = y ^ (t << k), eight times over, is the product of the undoing steps; no walk in sight -/
theorem xs_sl : ∀ n, n < 32 → ((nI n &&& 31).toBitVec.smod 32).toNat = n := by decide +kernel
theorem xs_su : ∀ n, n < 32 → (((nI n).toUInt32 &&& Int32.toUInt32 31).toBitVec % 32).toNat = n := by decide +kernel
theorem xs_shl (n : Nat) (hn : n < 32) (x : Int32) : (x <<< (nI n &&& 31)).toBitVec = x.toBitVec <<< n := by
  show x.toBitVec <<< ((nI n &&& 31).toBitVec.smod 32).toNat = _
  rw [xs_sl n hn]
theorem xs_shr (n : Nat) (hn : n < 32) (x : Int32) : ((x.toUInt32 >>> ((nI n).toUInt32 &&& Int32.toUInt32 31)).toInt32).toBitVec = x.toBitVec >>> n := by
  show x.toBitVec >>> (((nI n).toUInt32 &&& Int32.toUInt32 31).toBitVec % 32).toNat = _
  rw [xs_su n hn]
theorem xs_s5 (x : Int32) : (x <<< ((5 : Int32) &&& 31)).toBitVec = x.toBitVec <<< 5 := xs_shl 5 (by decide) x
theorem xs_s10 (x : Int32) : (x <<< ((10 : Int32) &&& 31)).toBitVec = x.toBitVec <<< 10 := xs_shl 10 (by decide) x
theorem xs_s13 (x : Int32) : (x <<< ((13 : Int32) &&& 31)).toBitVec = x.toBitVec <<< 13 := xs_shl 13 (by decide) x
theorem xs_s20 (x : Int32) : (x <<< ((20 : Int32) &&& 31)).toBitVec = x.toBitVec <<< 20 := xs_shl 20 (by decide) x
theorem xs_s26 (x : Int32) : (x <<< ((26 : Int32) &&& 31)).toBitVec = x.toBitVec <<< 26 := xs_shl 26 (by decide) x
theorem xs_r17 (x : Int32) : ((x.toUInt32 >>> ((17 : Int32).toUInt32 &&& Int32.toUInt32 31)).toInt32).toBitVec = x.toBitVec >>> 17 := xs_shr 17 (by decide) x
/-- n rounds of the reference's unLeft -/
def xs_L (y k : Int32) : Nat → Int32
  | 0 => y
  | n + 1 => y ^^^ (xs_L y k n <<< (k &&& 31))
/-- n rounds of the reference's unRight -/
def xs_R (y k : Int32) : Nat → Int32
  | 0 => y
  | n + 1 => y ^^^ (((xs_R y k n).toUInt32 >>> (k.toUInt32 &&& Int32.toUInt32 31)).toInt32)
theorem xs_v5 {y a b c : Int32} (ea : a = y ^^^ (y <<< ((5 : Int32) &&& 31))) (eb : b = a ^^^ (a <<< ((10 : Int32) &&& 31))) (ec : c = b ^^^ (b <<< ((20 : Int32) &&& 31))) : xs_L y 5 8 = c := by
  subst ec eb ea
  apply Int32.toBitVec_inj.mp
  simp only [xs_L, Int32.toBitVec_xor, xs_s5, xs_s10, xs_s20]
  generalize y.toBitVec = z
  have h35 : z <<< 35 = 0#32 := BitVec.shiftLeft_eq_zero (by decide)
  simp only [BitVec.shiftLeft_xor_distrib, ← BitVec.shiftLeft_add, Nat.reduceAdd, h35, BitVec.xor_zero, BitVec.xor_assoc]
theorem xs_v17 {y a : Int32} (ea : a = y ^^^ ((y.toUInt32 >>> ((17 : Int32).toUInt32 &&& Int32.toUInt32 31)).toInt32)) : xs_R y 17 8 = a := by
  subst ea
  apply Int32.toBitVec_inj.mp
  simp only [xs_R, Int32.toBitVec_xor, xs_r17]
  generalize y.toBitVec = z
  have h34 : z >>> 34 = 0#32 := BitVec.ushiftRight_eq_zero (by decide)
  simp only [BitVec.ushiftRight_xor_distrib, ← BitVec.shiftRight_add, Nat.reduceAdd, h34, BitVec.xor_zero, BitVec.xor_assoc]
theorem xs_v13 {y a b : Int32} (ea : a = y ^^^ (y <<< ((13 : Int32) &&& 31))) (eb : b = a ^^^ (a <<< ((26 : Int32) &&& 31))) : xs_L y 13 8 = b := by
  subst eb ea
  apply Int32.toBitVec_inj.mp
  simp only [xs_L, Int32.toBitVec_xor, xs_s13, xs_s26]
  generalize y.toBitVec = z
  have h39 : z <<< 39 = 0#32 := BitVec.shiftLeft_eq_zero (by decide)
  simp only [BitVec.shiftLeft_xor_distrib, ← BitVec.shiftLeft_add, Nat.reduceAdd, h39, BitVec.xor_zero, BitVec.xor_assoc]
end
section
/-! the reference's two counted loops: eight rounds, whatever is asked behind them -/
theorem xs_8 : nI 8 = 8 := by decide +kernel
theorem xs_wL {post : Int32 → Prop} {y k : Int32} (hp : post (xs_L y k 8)) : ∀ d j : Nat, j + d = 8 → wY_unLeft_4 post y k (d + 1) (xs_L y k j) (nI j) := by
  intro d
  induction d with
  | zero =>
    intro j hj
    cases (show j = 8 by omega)
    have h : (8 : Int32) ≤ nI 8 := by rw [← xs_8]; exact nI_le (by omega) (by omega)
    exact br_t h hp
  | succ d ih =>
    intro j hj
    have h : ¬ (8 : Int32) ≤ nI j := by rw [← xs_8]; exact nI_ge (by omega) (by omega)
    refine br_f h (fun t et i ei => ?_)
    rw [et, ei, nI_1]
    exact ih (j + 1) (by omega)
theorem xs_pL {post : Int32 → Prop} {y k : Int32} (hp : post (xs_L y k 8)) : wpY_unLeft post y k := by
  have h := xs_wL hp 8 0 rfl
  rw [nI_0] at h
  exact ⟨9, h⟩
theorem xs_wR {post : Int32 → Prop} {y k : Int32} (hp : post (xs_R y k 8)) : ∀ d j : Nat, j + d = 8 → wY_unRight_4 post y k (d + 1) (xs_R y k j) (nI j) := by
  intro d
  induction d with
  | zero =>
    intro j hj
    cases (show j = 8 by omega)
    have h : (8 : Int32) ≤ nI 8 := by rw [← xs_8]; exact nI_le (by omega) (by omega)
    exact br_t h hp
  | succ d ih =>
    intro j hj
    have h : ¬ (8 : Int32) ≤ nI j := by rw [← xs_8]; exact nI_ge (by omega) (by omega)
    refine br_f h (fun t et i ei => ?_)
    rw [et, ei, nI_1]
    exact ih (j + 1) (by omega)
theorem xs_pR {post : Int32 → Prop} {y k : Int32} (hp : post (xs_R y k 8)) : wpY_unRight post y k := by
  have h := xs_wR hp 8 0 rfl
  rw [nI_0] at h
  exact ⟨9, h⟩
end
section
/-- both objects hold the same int -/
def i_Rel (k : Nat) (u : SX) (v : SY) : Prop := u = v
theorem i_up {k : Nat} {u : SX} {v : SY} (h : i_Rel k u v) : i_Rel (k + 2) u v := h
theorem i_vc0 : wpX_init (fun u => wpY_init (fun v => i_Rel 0 u v)) := rfl
theorem i_vc_seed {k : Nat} {u : SX} {v : SY} (I : i_Rel k u v) (hk : k + 2 ≤ 1024) (v1 : Int32) : wpX_seed (fun r u' => wpY_seed (fun r' v' => r' = r ∧ i_Rel (k + 2) u' v') v v1) u v1 := by
  cases I
  by_cases h : v1 = 0
  · exact br_t h (br_t h ⟨rfl, rfl⟩)
  · exact br_f h (br_f h ⟨rfl, rfl⟩)
theorem i_vc_next {k : Nat} {u : SX} {v : SY} (I : i_Rel k u v) (hk : k + 2 ≤ 1024) : wpX_next (fun r u' => wpY_next (fun r' v' => r' = r ∧ i_Rel (k + 2) u' v') v) u := by
  cases I
  intro a ea b eb c ec
  intro a' ea' b' eb' c' ec'
  cases ea'.trans ea.symm
  cases eb'.trans eb.symm
  exact ⟨ec.symm, ec.trans ec'.symm⟩
theorem i_vc_back {k : Nat} {u : SX} {v : SY} (I : i_Rel k u v) (hk : k + 2 ≤ 1024) : wpX_back (fun r u' => wpY_back (fun r' v' => r' = r ∧ i_Rel (k + 2) u' v') v) u := by
  cases I
  unfold wpX_back wpY_back
  intro a ea b eb c ec d ed e ee f ef
  have h1 := xs_v5 ea eb ec
  have h2 := xs_v17 ed
  have h3 := xs_v13 ee ef
  refine xs_pL ?_
  rw [h1]
  refine xs_pR ?_
  rw [h2]
  refine xs_pL ?_
  rw [h3]
  exact ⟨rfl, rfl⟩
theorem i_vc_state {k : Nat} {u : SX} {v : SY} (I : i_Rel k u v) (hk : k + 2 ≤ 1024) : wpX_state (fun r => wpY_state (fun r' => r' = r ∧ i_Rel (k + 2) u v) v) u := by
  cases I
  exact And.intro rfl rfl
theorem i_vc_low16 {k : Nat} {u : SX} {v : SY} (I : i_Rel k u v) (hk : k + 2 ≤ 1024) : wpX_low16 (fun r => wpY_low16 (fun r' => r' = r ∧ i_Rel (k + 2) u v) v) u := by
  cases I
  unfold wpX_low16 wpY_low16
  exact ⟨lw_i16_n u, lw_i16_n u, rfl, rfl⟩
end
