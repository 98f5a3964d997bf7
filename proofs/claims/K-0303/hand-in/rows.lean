section
/-! PART 1. Pure rows: five rows taken from kit/rows/PURE-ROWS (pk_*), then the mathematics of a sorted table of line starts -/
theorem pk_us {f : Nat → Int32} {k : Nat} {x : Int32} : upd f k x k = x := if_pos rfl
theorem pk_un {f : Nat → Int32} {k j : Nat} {x : Int32} (h : j ≠ k) : upd f k x j = f j := if_neg h
theorem pk_tn {n : Nat} (h : n < 2 ^ 32) : (nI n).toBitVec.toNat = n := Nat.mod_eq_of_lt h
theorem pk_ushr (x s : Int32) (k : Nat) (hs : ((s.toUInt32 &&& Int32.toUInt32 31).toBitVec % 32).toNat = k) : (x.toUInt32 >>> (s.toUInt32 &&& Int32.toUInt32 31)).toInt32.toBitVec.toNat = x.toBitVec.toNat / 2 ^ k := by
  have e : (x.toUInt32 >>> (s.toUInt32 &&& Int32.toUInt32 31)).toInt32.toBitVec = x.toBitVec >>> k := by
    rw [← hs]
    exact UInt32.toBitVec_shiftRight _ _
  rw [e, BitVec.toNat_ushiftRight, Nat.shiftRight_eq_div_pow]
theorem pk_ushrN {n : Nat} (hn : n < 2 ^ 32) (s : Int32) (k : Nat) (hs : ((s.toUInt32 &&& Int32.toUInt32 31).toBitVec % 32).toNat = k) : ((nI n).toUInt32 >>> (s.toUInt32 &&& Int32.toUInt32 31)).toInt32 = nI (n / 2 ^ k) := by
  apply Int32.toBitVec_inj.mp
  apply BitVec.eq_of_toNat_eq
  rw [pk_ushr _ s k hs, pk_tn hn, pk_tn (Nat.lt_of_le_of_lt (Nat.div_le_self _ _) hn)]

/-- the first n cells rise -/
def li_Srt (n : Nat) (a : Nat → Int32) : Prop := ∀ i j : Nat, i < j → j < n → (a i).toInt ≤ (a j).toInt
/-- r is the line of offset x: of the first n cells exactly those behind r lie beyond x -/
def li_Is (n : Nat) (a : Nat → Int32) (x : Int32) (r : Nat) : Prop := r < n ∧ ∀ j : Nat, j < n → (x < a j ↔ r < j)

/-- one less than a positive natural -/
theorem li_pred {n : Nat} (h : 1 ≤ n) : nI n - 1 = nI (n - 1) := by
  obtain ⟨m, rfl⟩ : ∃ m, n = m + 1 := ⟨n - 1, by omega⟩
  exact nI_pred m

/-- a new table: writing 0 over 0 changes nothing -/
theorem li_zero : upd (fun _ => 0) 0 0 = (fun _ => 0 : Nat → Int32) := by
  funext j
  unfold upd
  split <;> rfl

/-- an accepted newline keeps the table rising -/
theorem li_step {n : Nat} {a : Nat → Int32} {x : Int32} (h1 : 1 ≤ n) (hs : li_Srt n a) (ha : a (n - 1) ≤ x) (hm : ¬ x = 2147483647) : li_Srt (n + 1) (upd a n (x + 1)) := by
  intro i j hij hj
  have hne : x.toInt ≠ 2147483647 := fun h => hm (Int32.toInt_inj.mp h)
  have hlt : x.toInt < 2147483648 := x.toInt_lt
  have hge : -2147483648 ≤ x.toInt := x.le_toInt
  have h1' : (1 : Int32).toInt = 1 := by decide
  have e : (x + 1).toInt = x.toInt + 1 := by
    rw [Jvm.Kit.i32_add (by omega) (by omega), h1']
  have ha' : (a (n - 1)).toInt ≤ x.toInt := Int32.le_iff_toInt_le.mp ha
  by_cases hjn : j = n
  · subst hjn
    rw [pk_us, pk_un (by omega), e]
    have hi : (a i).toInt ≤ (a (j - 1)).toInt := by
      by_cases hi : i = j - 1
      · rw [hi]; exact Int.le_refl _
      · exact hs i (j - 1) (by omega) (by omega)
    omega
  · rw [pk_un (by omega), pk_un (by omega)]
    exact hs i j hij (by omega)

/-- every offset from the first start on has its line -/
theorem li_ex {a : Nat → Int32} {x : Int32} (h0 : ¬ x < a 0) : ∀ n : Nat, li_Srt (n + 1) a → ∃ r : Nat, li_Is (n + 1) a x r := by
  intro n
  induction n with
  | zero =>
    intro _
    refine ⟨0, by omega, fun j hj => ?_⟩
    obtain rfl : j = 0 := by omega
    exact ⟨fun h => absurd h h0, fun h => absurd h (by omega)⟩
  | succ n ih =>
    intro hs
    obtain ⟨r, hr, hj⟩ := ih (fun i j hij hj => hs i j hij (by omega))
    by_cases hx : x < a (n + 1)
    · refine ⟨r, by omega, fun j h => ?_⟩
      by_cases e : j = n + 1
      · subst e
        exact ⟨fun _ => by omega, fun _ => hx⟩
      · exact hj j (by omega)
    · refine ⟨n + 1, by omega, fun j h => ⟨fun hxj => ?_, fun h' => by omega⟩⟩
      exfalso
      by_cases e : j = n + 1
      · subst e
        exact hx hxj
      · have h2 := hs j (n + 1) (by omega) (by omega)
        have h3 := Int32.lt_iff_toInt_lt.mp hxj
        exact hx (Int32.lt_iff_toInt_lt.mpr (by omega))
end
section
/-! PART 2. The two searches: X's halving, Y's scan, each against the line r -/
/-- X's halving: lo is at most r + 1, hi at least r, and the answer stands just below lo -/
theorem li_X {n r : Nat} {a : Nat → Int32} {x fc fn : Int32} {post : Int32 → Prop} (hn : n ≤ 8) (hr : li_Is n a x r) (hp : post (nI r)) : ∀ d lo hi ans : Nat, hi + 1 < lo + d → hi < n → lo ≤ r + 1 → r ≤ hi → (lo = ans + 1 ∨ lo = 0) → wX_lineOf_18 post x fc fn a d (nI lo) (nI hi) (nI ans) := by
  intro d
  induction d with
  | zero => intro lo hi ans h1 h2 h3 h4 h5; exfalso; omega
  | succ d ih =>
    intro lo hi ans h1 h2 h3 h4 h5
    by_cases hlt : hi < lo
    · have e : ans = r := by omega
      subst e
      exact br_t (nI_lt hlt (by omega)) hp
    · obtain ⟨m, em⟩ : ∃ m : Nat, m = (lo + hi) / 2 ^ 1 := ⟨_, rfl⟩
      have hm1 : lo ≤ m := by omega
      have hm2 : m ≤ hi := by omega
      have ez : ((nI lo + nI hi).toUInt32 >>> ((1 : Int32).toUInt32 &&& Int32.toUInt32 31)).toInt32 = nI m := by
        rw [nI_add, em]
        exact pk_ushrN (by omega) 1 1 (by decide)
      have ec : (nI m).toNatClampNeg = m := nI_clamp (by omega)
      have hin : vp_in (nI m) 8 := vp_in_nI (by omega) (by omega)
      have hiff : x < a (nI m).toNatClampNeg ↔ r < m := by rw [ec]; exact hr.2 m (by omega)
      refine br_f (nI_nlt (by omega) (by omega)) (nm_r ez ⟨hin, ?_⟩)
      by_cases hb : x < a (nI m).toNatClampNeg
      · have hrm := hiff.mp hb
        exact br_t hb (nm_r (li_pred (by omega)) (ih lo (m - 1) ans (by omega) (by omega) h3 (by omega) h5))
      · have hrm : ¬ r < m := fun h => hb (hiff.mpr h)
        exact br_f hb (nm_r (nI_1 m) (ih (m + 1) hi m (by omega) h2 (by omega) h4 (Or.inl rfl)))

/-- Y's scan: once r lies behind, the line is r -/
theorem li_Y {n r : Nat} {a : Nat → Int32} {x fl : Int32} {post : Int32 → Prop} (hn : n ≤ 8) (hr : li_Is n a x r) (hp : post (nI r)) : ∀ d i l : Nat, n < i + d → i ≤ n → (r < i → l = r) → wY_lineOf_10 post x fl (nI n) a d (nI l) (nI i) := by
  intro d
  induction d with
  | zero => intro i l h1 h2 h3; exfalso; omega
  | succ d ih =>
    intro i l h1 h2 h3
    have hrn := hr.1
    by_cases hle : n ≤ i
    · have e : l = r := h3 (by omega)
      subst e
      exact br_t (nI_le hle (by omega)) hp
    · have ec : (nI i).toNatClampNeg = i := nI_clamp (by omega)
      have hin : vp_in (nI i) 8 := vp_in_nI (by omega) (by omega)
      have hiff : x < a (nI i).toNatClampNeg ↔ r < i := by rw [ec]; exact hr.2 i (by omega)
      refine br_f (nI_ge (by omega) (by omega)) ⟨hin, ?_⟩
      by_cases hb : x < a (nI i).toNatClampNeg
      · have hri := hiff.mp hb
        exact br_t hb (nm_r (nI_1 i) (ih (i + 1) l (by omega) (by omega) (fun _ => h3 hri)))
      · have hri : ¬ r < i := fun h => hb (hiff.mpr h)
        exact br_f hb (nm_r (nI_1 i) (ih (i + 1) i (by omega) (by omega) (fun h => by omega)))

theorem li_lineX {c n r : Nat} {a : Nat → Int32} {x : Int32} {post : Int32 → Prop} (h1 : 1 ≤ n) (hn : n ≤ 8) (h : 0 ≤ x) (hr : li_Is n a x r) (hp : post (nI r)) : wpX_lineOf post (nI c, nI n, a) x := by
  have hrn := hr.1
  exact br_t h (nm_r (li_pred h1) ⟨n + 1, li_X hn hr hp (n + 1) 0 (n - 1) 0 (by omega) (by omega) (by omega) (by omega) (Or.inr rfl)⟩)

theorem li_lineY {c n r : Nat} {a : Nat → Int32} {x : Int32} {post : Int32 → Prop} (h1 : 1 ≤ n) (hn : n ≤ 8) (h : 0 ≤ x) (hr : li_Is n a x r) (hp : post (nI r)) : wpY_lineOf post (nI c, nI n, a) x :=
  br_t h ⟨n + 1, li_Y hn hr hp (n + 1) 1 0 (by omega) h1 (fun h => by omega)⟩
end
section
/-! PART 3. What is owed: the relation, and one statement a case -/
/-- both sides keep the same table a of n line starts (the first is 0, they rise), within the same cap c of 1 to 8 -/
def i_Rel (_ : Nat) (u : SX) (v : SY) : Prop := ∃ (c n : Nat) (a : Nat → Int32), 1 ≤ n ∧ n ≤ c ∧ c ≤ 8 ∧ a 0 = 0 ∧ li_Srt n a ∧ u = (nI c, nI n, a) ∧ v = (nI c, nI n, a)
theorem i_up {k : Nat} {u : SX} {v : SY} (h : i_Rel k u v) : i_Rel (k + 2) u v := h
theorem li_new {c : Nat} (h1 : 1 ≤ c) (h8 : c ≤ 8) {a : Nat → Int32} (e : a = upd (fun _ => 0) 0 0) : i_Rel 1 (nI c, 1, a) (nI c, 1, fun _ => 0) := by
  rw [li_zero] at e
  subst e
  exact ⟨c, 1, fun _ => 0, Nat.le_refl 1, h1, h8, rfl, fun i j hij hj => by omega, rfl, rfl⟩
theorem i_vc0 (k0 : Int32) : wpX_init (fun u => wpY_init (fun v => i_Rel 1 u v) k0) k0 := by
  by_cases h1 : 1 ≤ k0
  · by_cases h8 : k0 ≤ 8
    · have hk : ¬ k0 < 0 := by
        have h1' := Int32.le_iff_toInt_le.mp h1
        have e1 : (1 : Int32).toInt = 1 := by decide
        have e0 : (0 : Int32).toInt = 0 := by decide
        intro h
        have h' := Int32.lt_iff_toInt_lt.mp h
        omega
      obtain ⟨c, hc, rfl⟩ := nI_of hk
      have g1 : 1 ≤ c := (nI_leI (a := 1) (by omega) hc).mp h1
      have g8 : c ≤ 8 := (nI_leI (b := 8) hc (by omega)).mp h8
      exact br_t h1 (br_t h8 fun a ea => br_t h1 (br_t h8 (li_new g1 g8 ea)))
    · exact br_t h1 (br_f h8 fun a ea => br_t h1 (br_f h8 (li_new (c := 8) (by omega) (by omega) ea)))
  · exact br_f h1 (br_t (by decide) fun a ea => br_f h1 (li_new (c := 1) (by omega) (by omega) ea))
theorem i_vc_newlineAt {k : Nat} {u : SX} {v : SY} (I : i_Rel k u v) (hk : k + 2 ≤ 1025) (v1 : Int32) : wpX_newlineAt (fun r u' => wpY_newlineAt (fun r' v' => r' = r ∧ i_Rel (k + 2) u' v') v v1) u v1 := by
  obtain ⟨c, n, a, h1, hc, h8, h0, hs, rfl, rfl⟩ := I
  have J : i_Rel (k + 2) (nI c, nI n, a) (nI c, nI n, a) := ⟨c, n, a, h1, hc, h8, h0, hs, rfl, rfl⟩
  by_cases hl : nI n < nI c
  · have hl' : n < c := (nI_ltI (by omega) (by omega)).mp hl
    have e1 : nI n - 1 = nI (n - 1) := li_pred h1
    have hi : vp_in (nI n - 1) 8 := by rw [e1]; exact vp_in_nI (by omega) (by omega)
    have hi2 : vp_in (nI n) 8 := vp_in_nI (by omega) (by omega)
    have ec : (nI n - 1).toNatClampNeg = n - 1 := by rw [e1]; exact nI_clamp (by omega)
    have ecn : (nI n).toNatClampNeg = n := nI_clamp (by omega)
    by_cases ha : a (nI n - 1).toNatClampNeg ≤ v1
    · by_cases hm : v1 = 2147483647
      · exact br_t hl ⟨hi, br_t ha (br_t hm (br_t hl ⟨hi, br_t ha (br_t hm ⟨rfl, J⟩)⟩))⟩
      · refine br_t hl ⟨hi, br_t ha (br_f hm ⟨hi2, fun b eb m em => br_t hl ⟨hi, br_t ha (br_f hm fun m' em' => ⟨hi2, fun b' eb' => ⟨rfl, ?_⟩⟩)⟩⟩)⟩
        subst eb em em' eb'
        rw [ecn, nI_1]
        rw [ec] at ha
        exact ⟨c, n + 1, upd a n (v1 + 1), by omega, by omega, h8, (pk_un (by omega)).trans h0, li_step h1 hs ha hm, rfl, rfl⟩
    · exact br_t hl ⟨hi, br_f ha (br_t hl ⟨hi, br_f ha ⟨rfl, J⟩⟩)⟩
  · exact br_f hl (br_f hl ⟨rfl, J⟩)
theorem li_line {n : Nat} {a : Nat → Int32} {x : Int32} (h1 : 1 ≤ n) (h0 : a 0 = 0) (hs : li_Srt n a) (h : 0 ≤ x) : ∃ r : Nat, li_Is n a x r := by
  obtain ⟨m, rfl⟩ : ∃ m, n = m + 1 := ⟨n - 1, by omega⟩
  exact li_ex (by rw [h0]; exact Int32.not_lt.mpr h) m hs
theorem i_vc_lineOf {k : Nat} {u : SX} {v : SY} (I : i_Rel k u v) (hk : k + 2 ≤ 1025) (v1 : Int32) : wpX_lineOf (fun r => wpY_lineOf (fun r' => r' = r ∧ i_Rel (k + 2) u v) v v1) u v1 := by
  obtain ⟨c, n, a, h1, hc, h8, h0, hs, rfl, rfl⟩ := I
  have J : i_Rel (k + 2) (nI c, nI n, a) (nI c, nI n, a) := ⟨c, n, a, h1, hc, h8, h0, hs, rfl, rfl⟩
  by_cases h : 0 ≤ v1
  · obtain ⟨r, hr⟩ := li_line h1 h0 hs h
    exact li_lineX h1 (by omega) h hr (li_lineY h1 (by omega) h hr ⟨rfl, J⟩)
  · exact br_f h (br_f h ⟨rfl, J⟩)
theorem i_vc_colOf {k : Nat} {u : SX} {v : SY} (I : i_Rel k u v) (hk : k + 2 ≤ 1025) (v1 : Int32) : wpX_colOf (fun r => wpY_colOf (fun r' => r' = r ∧ i_Rel (k + 2) u v) v v1) u v1 := by
  obtain ⟨c, n, a, h1, hc, h8, h0, hs, rfl, rfl⟩ := I
  have J : i_Rel (k + 2) (nI c, nI n, a) (nI c, nI n, a) := ⟨c, n, a, h1, hc, h8, h0, hs, rfl, rfl⟩
  by_cases h : 0 ≤ v1
  · obtain ⟨r, hr⟩ := li_line h1 h0 hs h
    have hrn := hr.1
    have hin : vp_in (nI r) 8 := vp_in_nI (by omega) (by omega)
    exact br_t h (li_lineX h1 (by omega) h hr ⟨hin, br_t h (li_lineY h1 (by omega) h hr ⟨hin, rfl, J⟩)⟩)
  · exact br_f h (br_f h ⟨rfl, J⟩)
theorem i_vc_lines {k : Nat} {u : SX} {v : SY} (I : i_Rel k u v) (hk : k + 2 ≤ 1025) : wpX_lines (fun r => wpY_lines (fun r' => r' = r ∧ i_Rel (k + 2) u v) v) u := by
  obtain ⟨c, n, a, h1, hc, h8, h0, hs, rfl, rfl⟩ := I
  exact ⟨rfl, c, n, a, h1, hc, h8, h0, hs, rfl, rfl⟩
end
