section
/-- a char that is stored is what was stored: the narrowing of a value narrowed already -/
theorem ks_vc (z : Int32) : vp_nar .char (z.toUInt32 % 65536).toInt32 = (z.toUInt32 % 65536).toInt32 := by
  rw [vp_nar_char]
  apply Int32.toBitVec_inj.mp
  apply BitVec.eq_of_toNat_eq
  show (z.toUInt32 % 65536).toUInt16.toUInt32.toNat = (z.toUInt32 % 65536).toNat
  rw [UInt16.toNat_toUInt32, UInt32.toNat_toUInt16, UInt32.toNat_mod]
  have e : (65536 : UInt32).toNat = 65536 := rfl
  rw [e]
  omega
/-- what is read at the place just written -/
theorem ks_us (f : Nat → Int32) (k : Nat) (x : Int32) : upd f k x k = x := if_pos rfl
theorem ks_and (y : Int32) : vp_in (y &&& 15) 16 := by
  have h : (y &&& 15).toBitVec.toNat < 16 := by
    rw [Int32.toBitVec_and, BitVec.toNat_and]
    exact Nat.lt_of_le_of_lt Nat.and_le_right (by decide)
  have e : (y &&& 15).toInt = (y &&& 15).toBitVec.toInt := rfl
  rw [vp_in_iff, e, BitVec.toInt_eq_toNat_of_lt (by omega)]
  omega
theorem ks_16 : nI 16 = 16 := by decide +kernel
/-- the two scans in lockstep: one best value r for both -/
theorem ks_scan (fa fb : Int32) (a b : Nat → Int32) : ∀ d j : Nat, j + d = 16 → ∀ (s t : Int32) (m : Int64), ∃ r : Int64, (∀ post : Int64 → Prop, post r → wX_gap_9 post fa fb a b (d + 1) s t m (nI j)) ∧ (∀ post : Int64 → Prop, post r → wY_gap_10 post fa fb a b (d + 1) m s t (nI j)) := by
  intro d
  induction d with
  | zero =>
    intro j hj s t m
    have h : (16 : Int32) ≤ nI j := by rw [← ks_16]; exact nI_le (by omega) (by omega)
    exact ⟨m, fun _ hp => br_t h hp, fun _ hp => br_t h hp⟩
  | succ d ih =>
    intro j hj s t m
    have h : ¬ (16 : Int32) ≤ nI j := by rw [← ks_16]; exact nI_ge (by omega) (by omega)
    have hi : vp_in (nI j) 16 := vp_in_nI (by omega) (by omega)
    have hj' : (j + 1) + d = 16 := by omega
    by_cases h0 : 0 ≤ ((s + a (nI j).toNatClampNeg).toInt64 * fb.toInt64) - ((t + b (nI j).toNatClampNeg).toInt64 * fa.toInt64)
    · by_cases h1 : ((s + a (nI j).toNatClampNeg).toInt64 * fb.toInt64) - ((t + b (nI j).toNatClampNeg).toInt64 * fa.toInt64) ≤ m
      · obtain ⟨r, hX, hY⟩ := ih (j + 1) hj' (s + a (nI j).toNatClampNeg) (t + b (nI j).toNatClampNeg) m
        refine ⟨r, fun post hp => br_f h ⟨hi, fun s' es => ⟨hi, fun t' et x ex => ?_⟩⟩, fun post hp => br_f h ⟨hi, fun s' es => ⟨hi, fun t' et x ex => ?_⟩⟩⟩
        · subst es; subst et; subst ex
          exact br_t h0 (br_t h1 (fun y ey => by rw [ey, nI_1]; exact hX post hp))
        · subst es; subst et; subst ex
          exact br_t h0 (br_t h1 (fun y ey => by rw [ey, nI_1]; exact hY post hp))
      · obtain ⟨r, hX, hY⟩ := ih (j + 1) hj' (s + a (nI j).toNatClampNeg) (t + b (nI j).toNatClampNeg) (((s + a (nI j).toNatClampNeg).toInt64 * fb.toInt64) - ((t + b (nI j).toNatClampNeg).toInt64 * fa.toInt64))
        refine ⟨r, fun post hp => br_f h ⟨hi, fun s' es => ⟨hi, fun t' et x ex => ?_⟩⟩, fun post hp => br_f h ⟨hi, fun s' es => ⟨hi, fun t' et x ex => ?_⟩⟩⟩
        · subst es; subst et; subst ex
          exact br_t h0 (br_f h1 (fun y ey => by rw [ey, nI_1]; exact hX post hp))
        · subst es; subst et; subst ex
          exact br_t h0 (br_f h1 (fun y ey => by rw [ey, nI_1]; exact hY post hp))
    · by_cases h1 : -(((s + a (nI j).toNatClampNeg).toInt64 * fb.toInt64) - ((t + b (nI j).toNatClampNeg).toInt64 * fa.toInt64)) ≤ m
      · obtain ⟨r, hX, hY⟩ := ih (j + 1) hj' (s + a (nI j).toNatClampNeg) (t + b (nI j).toNatClampNeg) m
        refine ⟨r, fun post hp => br_f h ⟨hi, fun s' es => ⟨hi, fun t' et x ex => ?_⟩⟩, fun post hp => br_f h ⟨hi, fun s' es => ⟨hi, fun t' et x ex => ?_⟩⟩⟩
        · subst es; subst et; subst ex
          refine br_f h0 (fun z ez => ?_)
          subst ez
          exact br_t h1 (fun y ey => by rw [ey, nI_1]; exact hX post hp)
        · subst es; subst et; subst ex
          refine br_f h0 (fun z ez => ?_)
          subst ez
          exact br_t h1 (fun y ey => by rw [ey, nI_1]; exact hY post hp)
      · obtain ⟨r, hX, hY⟩ := ih (j + 1) hj' (s + a (nI j).toNatClampNeg) (t + b (nI j).toNatClampNeg) (-(((s + a (nI j).toNatClampNeg).toInt64 * fb.toInt64) - ((t + b (nI j).toNatClampNeg).toInt64 * fa.toInt64)))
        refine ⟨r, fun post hp => br_f h ⟨hi, fun s' es => ⟨hi, fun t' et x ex => ?_⟩⟩, fun post hp => br_f h ⟨hi, fun s' es => ⟨hi, fun t' et x ex => ?_⟩⟩⟩
        · subst es; subst et; subst ex
          refine br_f h0 (fun z ez => ?_)
          subst ez
          exact br_f h1 (fun y ey => by rw [ey, nI_1]; exact hX post hp)
        · subst es; subst et; subst ex
          refine br_f h0 (fun z ez => ?_)
          subst ez
          exact br_f h1 (fun y ey => by rw [ey, nI_1]; exact hY post hp)
/-- gap on one state gives one answer on both sides, whatever is asked of it -/
theorem ks_gap (fa fb : Int32) (a b : Nat → Int32) : ∃ r : Int64, (∀ post : Int64 → Prop, post r → wpX_gap post (fa, fb, a, b)) ∧ (∀ post : Int64 → Prop, post r → wpY_gap post (fa, fb, a, b)) := by
  obtain ⟨r, hX, hY⟩ := ks_scan fa fb a b 16 0 rfl 0 0 0
  rw [nI_0] at hX hY
  exact ⟨r, fun post hp => Exists.intro 17 (hX post hp), fun post hp => Exists.intro 17 (hY post hp)⟩
end
section
/-- the two objects hold the same totals and the same bins -/
def i_Rel (_ : Nat) (u : SX) (v : SY) : Prop := u = v
theorem i_up {k : Nat} {u : SX} {v : SY} (h : i_Rel k u v) : i_Rel (k + 3) u v := h
theorem i_vc0 : wpX_init (fun u => wpY_init (fun v => i_Rel 0 u v)) := rfl
theorem i_vc_put {k : Nat} {u : SX} {v : SY} (I : i_Rel k u v) (hk : k + 3 ≤ 1536) (v1 : Int32) (v2 : Int32) : wpX_put (fun r u' => wpY_put (fun r' v' => r' = r ∧ i_Rel (k + 3) u' v') v v1 v2) u v1 v2 := by
  cases I
  obtain ⟨fa, fb, a, b⟩ := u
  have hx : vp_in (v2 &&& 15) 16 := ks_and v2
  intro x ex
  subst ex
  by_cases c : v1 &&& 1 = 0
  · refine br_t c ⟨hx, hx, fun a' ea fa' ef => ⟨hx, ?_⟩⟩
    intro y ey
    subst ey
    refine br_t c (fun ga' eg => ⟨hx, hx, fun c' ec => ?_⟩)
    subst ea; subst ef; subst eg; subst ec
    exact ⟨((ks_us _ _ _).trans (ks_vc _)).symm, rfl⟩
  · refine br_f c ⟨hx, hx, fun b' eb fb' ef => ⟨hx, ?_⟩⟩
    intro y ey
    subst ey
    refine br_f c (fun gb' eg => ⟨hx, hx, fun c' ec => ?_⟩)
    subst eb; subst ef; subst eg; subst ec
    exact ⟨((ks_us _ _ _).trans (ks_vc _)).symm, rfl⟩
theorem i_vc_gap {k : Nat} {u : SX} {v : SY} (I : i_Rel k u v) (hk : k + 3 ≤ 1536) : wpX_gap (fun r => wpY_gap (fun r' => r' = r ∧ i_Rel (k + 3) u v) v) u := by
  cases I
  obtain ⟨fa, fb, a, b⟩ := u
  obtain ⟨r, hX, hY⟩ := ks_gap fa fb a b
  exact hX _ (hY _ ⟨rfl, rfl⟩)
theorem i_vc_drifted {k : Nat} {u : SX} {v : SY} (I : i_Rel k u v) (hk : k + 3 ≤ 1536) : wpX_drifted (fun r => wpY_drifted (fun r' => r' = r ∧ i_Rel (k + 3) u v) v) u := by
  cases I
  obtain ⟨fa, fb, a, b⟩ := u
  obtain ⟨r, hX, hY⟩ := ks_gap fa fb a b
  unfold wpX_drifted wpY_drifted
  dsimp only
  by_cases c : 4 * r ≤ fa.toInt64 * fb.toInt64
  · refine hX _ (br_t c ?_)
    refine hY _ (br_t c ?_)
    exact ⟨rfl, rfl⟩
  · refine hX _ (br_f c ?_)
    refine hY _ (br_f c ?_)
    exact ⟨rfl, rfl⟩
theorem i_vc_total {k : Nat} {u : SX} {v : SY} (I : i_Rel k u v) (hk : k + 3 ≤ 1536) (v1 : Int32) : wpX_total (fun r => wpY_total (fun r' => r' = r ∧ i_Rel (k + 3) u v) v v1) u v1 := by
  cases I
  obtain ⟨fa, fb, a, b⟩ := u
  by_cases c : v1 &&& 1 = 0
  · exact br_t c (br_t c ⟨rfl, rfl⟩)
  · exact br_f c (br_f c ⟨rfl, rfl⟩)
end
