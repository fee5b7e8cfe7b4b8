section
/-- the two matrices are the same array content -/
def i_Rel (_ : Nat) (u : SX) (v : SY) : Prop := u = v
theorem i_up {k : Nat} {u : SX} {v : SY} (h : i_Rel k u v) : i_Rel (k + 5) u v := h
theorem fx_n0 : vp_nar .short 0 = 0 := by rw [vp_nar_short]; decide
theorem fx_vs (z : Int32) : vp_nar .short z.toInt16.toInt32 = z.toInt16.toInt32 := by rw [vp_nar_short]; simp
theorem fx_us {f : Nat → Int32} {k : Nat} {x : Int32} : upd f k x k = x := if_pos rfl
/-- a store of the value that stands there changes nothing -/
theorem fx_same {f : Nat → Int32} {k : Nat} {x : Int32} (h : f k = x) : upd f k x = f := by
  funext j
  show (if j = k then x else f j) = f j
  by_cases e : j = k
  · rw [if_pos e, e, h]
  · rw [if_neg e]
theorem fx_init (x : Int32) : upd (upd (upd (upd (fun _ => 0) 0 x) 1 0) 2 0) 3 x = upd (upd (fun _ => 0) 0 x) 3 x := by
  have h1 : upd (upd (fun _ => 0) 0 x) 1 0 = upd (fun _ => 0) 0 x := fx_same rfl
  have h2 : upd (upd (fun _ => 0) 0 x) 2 0 = upd (fun _ => 0) 0 x := fx_same rfl
  rw [h1, h2]
theorem fx_in {i : Int32} (h0 : ¬ i < 0) (h3 : i ≤ 3) : vp_in i 4 := by
  rw [Int32.lt_iff_toInt_lt] at h0
  rw [Int32.le_iff_toInt_le] at h3
  have e0 : (0 : Int32).toInt = 0 := by decide
  have e3 : (3 : Int32).toInt = 3 := by decide
  rw [e0] at h0
  rw [e3] at h3
  exact vp_in_iff.mpr ⟨by omega, by omega⟩
theorem i_vc0 : wpX_init (fun u => wpY_init (fun v => i_Rel 0 u v)) := by
  intro a1 e1 a2 e2 a3 e3 a4 e4 b1 f1 b2 f2
  show a4 = b2
  rw [e4, e3, e2, e1, f2, f1, fx_n0]
  exact fx_init _
theorem i_vc_set {k : Nat} {u : SX} {v : SY} (I : i_Rel k u v) (hk : k + 5 ≤ 2560) (v1 : Int32) (v2 : Int32) : wpX_set (fun r u' => wpY_set (fun r' v' => r' = r ∧ i_Rel (k + 5) u' v') v v1 v2) u v1 v2 := by
  cases I
  by_cases h0 : v1 < 0
  · exact br_t h0 (br_t h0 ⟨rfl, rfl⟩)
  · by_cases h3 : v1 ≤ 3
    · have hi : vp_in v1 4 := fx_in h0 h3
      refine br_f h0 (br_t h3 ⟨hi, fun a ea => ⟨hi, br_f h0 (br_t h3 ⟨hi, fun b eb => ⟨?_, ea.trans eb.symm⟩⟩)⟩⟩)
      rw [ea, fx_us, fx_vs]
    · exact br_f h0 (br_f h3 (br_f h0 (br_f h3 ⟨rfl, rfl⟩)))
theorem i_vc_get {k : Nat} {u : SX} {v : SY} (I : i_Rel k u v) (hk : k + 5 ≤ 2560) (v1 : Int32) : wpX_get (fun r => wpY_get (fun r' => r' = r ∧ i_Rel (k + 5) u v) v v1) u v1 := by
  cases I
  by_cases h0 : v1 < 0
  · exact br_t h0 (br_t h0 ⟨rfl, rfl⟩)
  · by_cases h3 : v1 ≤ 3
    · have hi : vp_in v1 4 := fx_in h0 h3
      exact br_f h0 (br_t h3 ⟨hi, br_f h0 (br_t h3 ⟨hi, rfl, rfl⟩)⟩)
    · exact br_f h0 (br_f h3 (br_f h0 (br_f h3 ⟨rfl, rfl⟩)))
theorem i_vc_mulBy {k : Nat} {u : SX} {v : SY} (I : i_Rel k u v) (hk : k + 5 ≤ 2560) (v1 : Int32) (v2 : Int32) (v3 : Int32) (v4 : Int32) : wpX_mulBy (fun r u' => wpY_mulBy (fun r' v' => r' = r ∧ i_Rel (k + 5) u' v') v v1 v2 v3 v4) u v1 v2 v3 v4 := by
  cases I
  intro c0 ec0 c1 ec1 c2 ec2 c3 ec3 t0 et0 t1 et1 t2 et2 t3 et3 a0 ea0 a1 ea1 a2 ea2 a3 ea3
  intro s0 es0 s1 es1 s2 es2 s3 es3 b0 eb0 b1 eb1 b2 eb2 b3 eb3
  subst ec0 ec1 ec2 ec3
  have q0 : s0 = t0 := es0.trans et0.symm
  have q1 : s1 = t1 := es1.trans et1.symm
  have q2 : s2 = t2 := es2.trans et2.symm
  have q3 : s3 = t3 := es3.trans et3.symm
  have hab : b3 = a3 := by rw [eb3, eb2, eb1, eb0, ea3, ea2, ea1, ea0, q0, q1, q2, q3]
  exact ⟨congrFun hab 0, hab.symm⟩
theorem i_vc_det {k : Nat} {u : SX} {v : SY} (I : i_Rel k u v) (hk : k + 5 ≤ 2560) : wpX_det (fun r => wpY_det (fun r' => r' = r ∧ i_Rel (k + 5) u v) v) u := by
  cases I
  intro c0 ec0 c1 ec1 c2 ec2 c3 ec3
  subst ec0 ec1 ec2 ec3
  exact ⟨rfl, rfl⟩
theorem i_vc_applyX {k : Nat} {u : SX} {v : SY} (I : i_Rel k u v) (hk : k + 5 ≤ 2560) (v1 : Int32) (v2 : Int32) : wpX_applyX (fun r => wpY_applyX (fun r' => r' = r ∧ i_Rel (k + 5) u v) v v1 v2) u v1 v2 := by
  cases I
  intro c0 ec0 c1 ec1
  subst ec0 ec1
  exact ⟨rfl, rfl⟩
end
