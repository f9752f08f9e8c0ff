section
/-! SparkPool: what one turn of tick's loop writes, and the two loops in lockstep (one outcome for both sides) -/
theorem pk_us {f : Nat → Int32} {k : Nat} {x : Int32} : upd f k x k = x := if_pos rfl
theorem pk_vb (z : Int32) : vp_nar .byte z.toInt8.toInt32 = z.toInt8.toInt32 := by rw [vp_nar_byte]; simp
/-- the positions behind one move of the spark at k -/
def sp_mv (a b : Nat → Int32) (k : Nat) : Nat → Int32 := upd a k (vp_nar .short ((a k + b k).toInt16.toInt32))
/-- the lives behind one tick of the spark at k -/
def sp_age (l : Nat → Int32) (k : Nat) : Nat → Int32 := upd l k (vp_nar .byte ((l k - 1).toInt8.toInt32))
/-- the spark at j laid over the one at k: positions, then bytes -/
def sp_cpS (a : Nat → Int32) (k j : Nat) : Nat → Int32 := upd a k (vp_nar .short (a j))
def sp_cpB (a : Nat → Int32) (k j : Nat) : Nat → Int32 := upd a k (vp_nar .byte (a j))
/-- what the component reads back from the cell is what the reference tests -/
theorem sp_age_at (l : Nat → Int32) (k : Nat) : upd l k (vp_nar .byte ((l k - 1).toInt8.toInt32)) k = (l k - 1).toInt8.toInt32 := by
  rw [pk_us, pk_vb]
/-- tick's loop: from the same locals, count and arrays both sides end with one answer, in one state -/
theorem sp_tick {p : Nat} (hp : p ≤ 6) : ∀ (d i c : Nat) (x : Int32) (a b l : Nat → Int32), i + d = c → c ≤ p →
    ∃ (r : Int32) (c' : Nat) (a' b' l' : Nat → Int32), c' ≤ p ∧
      (∀ post : Int32 → SX → Prop, post r (nI p, nI c', a', b', l') → wX_tick_4 post (nI p) (d + 1) x (nI i) (nI c) a b l) ∧
      (∀ post : Int32 → SY → Prop, post r (nI p, nI c', a', b', l') → wY_tick_4 post (nI p) (d + 1) x (nI i) (nI c) a b l) := by
  intro d
  induction d with
  | zero =>
    intro i c x a b l hi hc
    have h : nI c ≤ nI i := nI_le (by omega) (by omega)
    exact ⟨x, c, a, b, l, hc, fun _ q => br_t h q, fun _ q => br_t h q⟩
  | succ d ih =>
    intro i c x a b l hic hc
    obtain rfl : c = (i + d) + 1 := by omega
    have h : ¬ nI (i + d + 1) ≤ nI i := nI_ge (by omega) (by omega)
    have hi : vp_in (nI i) 6 := vp_in_nI (by omega) (by omega)
    have hj : vp_in (nI (i + d)) 6 := vp_in_nI (by omega) (by omega)
    have ea := sp_age_at l (nI i).toNatClampNeg
    by_cases z : (l (nI i).toNatClampNeg - 1).toInt8.toInt32 = 0
    · obtain ⟨r, c', a', b', l', hc', hX, hY⟩ := ih i (i + d) (x + 1)
        (sp_cpS (sp_mv a b (nI i).toNatClampNeg) (nI i).toNatClampNeg (nI (i + d)).toNatClampNeg)
        (sp_cpB b (nI i).toNatClampNeg (nI (i + d)).toNatClampNeg)
        (sp_cpB (sp_age l (nI i).toNatClampNeg) (nI i).toNatClampNeg (nI (i + d)).toNatClampNeg) rfl (by omega)
      refine ⟨r, c', a', b', l', hc', fun post q => ?_, fun post q => ?_⟩
      · exact br_f h ⟨hi, hi, hi, nm_e ⟨hi, hi, nm_e ⟨hi, br_t (ea.trans z) (nm_r (nI_pred (i + d)) ⟨hj, hi, nm_e ⟨hj, hi, nm_e ⟨hj, hi, nm_e (nm_e (hX post q))⟩⟩⟩)⟩⟩⟩
      · exact br_f h ⟨hi, hi, hi, nm_e ⟨hi, hi, nm_e (br_t z (nm_r (nI_pred (i + d)) (nm_r (nI_pred (i + d)) ⟨hj, hi, nm_e ⟨hj, hi, nm_e ⟨hj, hi, nm_e (nm_e (hY post q))⟩⟩⟩)))⟩⟩
    · obtain ⟨r, c', a', b', l', hc', hX, hY⟩ := ih (i + 1) (i + d + 1) x
        (sp_mv a b (nI i).toNatClampNeg) b (sp_age l (nI i).toNatClampNeg) (by omega) hc
      refine ⟨r, c', a', b', l', hc', fun post q => ?_, fun post q => ?_⟩
      · exact br_f h ⟨hi, hi, hi, nm_e ⟨hi, hi, nm_e ⟨hi, br_f (fun y => z (ea.symm.trans y)) (nm_r (nI_1 i) (hX post q))⟩⟩⟩
      · exact br_f h ⟨hi, hi, hi, nm_e ⟨hi, hi, nm_e (br_f z (nm_r (nI_1 i) (hY post q)))⟩⟩
/-- sumX's loop: one sum for both sides -/
theorem sp_sum {p c : Nat} (hc : c ≤ 6) (a b l : Nat → Int32) : ∀ (d i : Nat) (s : Int64), i + d = c →
    ∃ r : Int64,
      (∀ post : Int64 → Prop, post r → wX_sumX_4 post (nI p) (nI c) a b l (d + 1) s (nI i)) ∧
      (∀ post : Int64 → Prop, post r → wY_sumX_4 post (nI p) (nI c) a b l (d + 1) s (nI i)) := by
  intro d
  induction d with
  | zero =>
    intro i s hi
    have h : nI c ≤ nI i := nI_le (by omega) (by omega)
    exact ⟨s, fun _ q => br_t h q, fun _ q => br_t h q⟩
  | succ d ih =>
    intro i s hic
    have h : ¬ nI c ≤ nI i := nI_ge (by omega) (by omega)
    have hi : vp_in (nI i) 6 := vp_in_nI (by omega) (by omega)
    obtain ⟨r, hX, hY⟩ := ih (i + 1) (s + (nI i + 1).toInt64 * (a (nI i).toNatClampNeg).toInt64) (by omega)
    exact ⟨r, fun post q => br_f h ⟨hi, nm_e (nm_r (nI_1 i) (hX post q))⟩, fun post q => br_f h ⟨hi, nm_e (nm_r (nI_1 i) (hY post q))⟩⟩
end
section
/-- both objects hold the same capacity, count and arrays; the count is within the capacity, the capacity within six -/
def i_Rel (_ : Nat) (u : SX) (v : SY) : Prop :=
  ∃ (p c : Nat) (a b l : Nat → Int32), c ≤ p ∧ p ≤ 6 ∧ u = (nI p, nI c, a, b, l) ∧ v = (nI p, nI c, a, b, l)
theorem sp_rel {k p c : Nat} {a b l : Nat → Int32} (h : c ≤ p) (hp : p ≤ 6) : i_Rel k (nI p, nI c, a, b, l) (nI p, nI c, a, b, l) := ⟨p, c, a, b, l, h, hp, rfl, rfl⟩
theorem sp_rel0 {k : Nat} {x : Int32} (p : Nat) (e : x = nI p) (hp : p ≤ 6) : i_Rel k (x, 0, (fun _ => 0), (fun _ => 0), (fun _ => 0)) (x, 0, (fun _ => 0), (fun _ => 0), (fun _ => 0)) := by
  rw [e, ← nI_0]; exact ⟨p, 0, _, _, _, Nat.zero_le p, hp, rfl, rfl⟩
theorem i_up {k : Nat} {u : SX} {v : SY} (h : i_Rel k u v) : i_Rel (k + 4) u v := h
theorem i_vc0 (k0 : Int32) : wpX_init (fun u => wpY_init (fun v => i_Rel 1 u v) k0) k0 := by
  by_cases h1 : 1 ≤ k0
  · by_cases h6 : k0 ≤ 6
    · have h0 : ¬ k0 < 0 := Int32.not_lt.mpr (Int32.le_trans (by decide) h1)
      obtain ⟨j, hj, e⟩ := nI_of2 (M := 6) (n := 6) (by decide) h0 h6
      exact br_t h1 (br_t h6 (br_t h1 (br_t h6 (sp_rel0 j e hj))))
    · exact br_t h1 (br_f h6 (br_t h1 (br_f h6 (sp_rel0 6 (by decide) (by omega)))))
  · have h6 : (1 : Int32) ≤ 6 := by decide
    exact br_f h1 (br_t h6 (br_f h1 (sp_rel0 1 (by decide) (by omega))))
theorem i_vc_emit {k : Nat} {u : SX} {v : SY} (I : i_Rel k u v) (hk : k + 4 ≤ 2049) (v1 : Int32) (v2 : Int32) (v3 : Int32) : wpX_emit (fun r u' => wpY_emit (fun r' v' => r' = r ∧ i_Rel (k + 4) u' v') v v1 v2 v3) u v1 v2 v3 := by
  obtain ⟨p, c, a, b, l, hc, hp, rfl, rfl⟩ := I
  by_cases e : nI c = nI p
  · exact br_t e (br_t e ⟨rfl, sp_rel hc hp⟩)
  · have hne : c ≠ p := fun z => e (congrArg nI z)
    have hi : vp_in (nI c) 6 := vp_in_nI (by omega) (by omega)
    by_cases h1 : v3 < 1
    · exact br_f e (br_t h1 (br_f e (br_t h1 ⟨rfl, sp_rel hc hp⟩)))
    · by_cases h2 : v3 ≤ 127
      · exact br_f e (br_f h1 (br_t h2 ⟨hi, nm_e ⟨hi, nm_e ⟨hi, nm_e (nm_r (nI_1 c) (br_f e (br_f h1 (br_t h2 ⟨hi, nm_e ⟨hi, nm_e ⟨hi, nm_e (nm_r (nI_1 c) ⟨nI_pred c, sp_rel (by omega) hp⟩)⟩⟩⟩))))⟩⟩⟩))
      · exact br_f e (br_f h1 (br_f h2 (br_f e (br_f h1 (br_f h2 ⟨rfl, sp_rel hc hp⟩)))))
theorem i_vc_tick {k : Nat} {u : SX} {v : SY} (I : i_Rel k u v) (hk : k + 4 ≤ 2049) : wpX_tick (fun r u' => wpY_tick (fun r' v' => r' = r ∧ i_Rel (k + 4) u' v') v) u := by
  obtain ⟨p, c, a, b, l, hc, hp, rfl, rfl⟩ := I
  obtain ⟨r, c', a', b', l', hc', hX, hY⟩ := sp_tick hp c 0 c 0 a b l (by omega) hc
  rw [nI_0] at hX hY
  exact Exists.intro (c + 1) (hX _ (Exists.intro (c + 1) (hY _ ⟨rfl, sp_rel hc' hp⟩)))
theorem i_vc_sumX {k : Nat} {u : SX} {v : SY} (I : i_Rel k u v) (hk : k + 4 ≤ 2049) : wpX_sumX (fun r => wpY_sumX (fun r' => r' = r ∧ i_Rel (k + 4) u v) v) u := by
  obtain ⟨p, c, a, b, l, hc, hp, rfl, rfl⟩ := I
  obtain ⟨r, hX, hY⟩ := sp_sum (p := p) (c := c) (by omega) a b l c 0 0 (by omega)
  rw [nI_0] at hX hY
  exact Exists.intro (c + 1) (hX _ (Exists.intro (c + 1) (hY _ ⟨rfl, sp_rel hc hp⟩)))
theorem i_vc_count {k : Nat} {u : SX} {v : SY} (I : i_Rel k u v) (hk : k + 4 ≤ 2049) : wpX_count (fun r => wpY_count (fun r' => r' = r ∧ i_Rel (k + 4) u v) v) u := by
  obtain ⟨p, c, a, b, l, hc, hp, rfl, rfl⟩ := I
  exact And.intro rfl (sp_rel hc hp)
end
