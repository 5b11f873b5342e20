section
theorem pk_us {f : Nat → Int32} {k : Nat} {x : Int32} : upd f k x k = x := if_pos rfl
theorem pk_un {f : Nat → Int32} {k j : Nat} {x : Int32} (h : j ≠ k) : upd f k x j = f j := if_neg h
theorem pk_sub {a b : Nat} (h : b ≤ a) : nI a - nI b = nI (a - b) := by
  obtain ⟨c, rfl⟩ : ∃ c, a = c + b := ⟨a - b, by omega⟩
  rw [← nI_add, Int32.add_sub_cancel, Nat.add_sub_cancel]
theorem pk_mul (a b : Nat) : nI a * nI b = nI (a * b) := (Int32.ofNat_mul a b).symm
theorem pk_tn {n : Nat} (h : n < 2 ^ 32) : (nI n).toBitVec.toNat = n := Nat.mod_eq_of_lt h
theorem pk_charN {q : Nat} (hq : q < 65536) : narrow .char (.int (nI q)) = .int (nI q) ∧ fits .char (.int (nI q)) = true := by
  constructor
  · have e : (nI q).toUInt32.toUInt16.toUInt32.toInt32 = nI q := by
      apply Int32.toBitVec_inj.mp
      apply BitVec.eq_of_toNat_eq
      show (nI q).toUInt32.toUInt16.toUInt32.toNat = q % 2 ^ 32
      rw [UInt16.toNat_toUInt32, UInt32.toNat_toUInt16, show (nI q).toUInt32.toNat = q % 2 ^ 32 from rfl]
      omega
    exact congrArg Value.int e
  · have a : (0 : Int32) ≤ nI q := nI_pos' (by omega)
    have b : nI q ≤ 65535 := nI_le (b := 65535) (by omega) (by decide)
    show (decide ((0 : Int32) ≤ nI q) && decide (nI q ≤ 65535)) = true
    rw [decide_eq_true a, decide_eq_true b]
    rfl
theorem pk_char (x : Int32) : (x.toUInt32 % 65536).toInt32 = nI (x.toBitVec.toNat % 65536) := by
  apply Int32.toBitVec_inj.mp
  apply BitVec.eq_of_toNat_eq
  rw [pk_tn (by omega)]
  show (x.toUInt32 % 65536).toNat = _
  rw [UInt32.toNat_mod]
  rfl
theorem pk_nc (x : Int32) : narrow .char (.int (x.toUInt32 % 65536).toInt32) = .int (x.toUInt32 % 65536).toInt32 := by
  rw [pk_char]
  exact (pk_charN (Nat.mod_lt _ (by decide))).1
theorem pk_vc (z : Int32) : vp_nar .char (z.toUInt32 % 65536).toInt32 = (z.toUInt32 % 65536).toInt32 := Value.int.inj (pk_nc z)
def bt (x : Int32) (i : Nat) : Bool := x.toBitVec.getLsbD i
theorem b_ext {x y : Int32} (h : ∀ i, i < 32 → bt x i = bt y i) : x = y := Int32.toBitVec_inj.mp (BitVec.eq_of_getLsbD_eq (fun i hi => h i hi))
theorem b_or (x y : Int32) (i : Nat) : bt (x ||| y) i = (bt x i || bt y i) := by unfold bt; rw [Int32.toBitVec_or, BitVec.getLsbD_or]
theorem b_and (x y : Int32) (i : Nat) : bt (x &&& y) i = (bt x i && bt y i) := by unfold bt; rw [Int32.toBitVec_and, BitVec.getLsbD_and]
theorem nf_sh : ∀ l, l < 32 → ((1 : Int32) <<< (nI l &&& 31)).toBitVec = BitVec.twoPow 32 l := by decide +kernel
theorem nf_tp : ∀ l, l < 32 → BitVec.twoPow 32 l ≠ 0#32 := by decide +kernel
end
section
/-- how many of the first n cells hold 0 -/
def dc_z (a : Nat → Int32) : Nat → Nat
  | 0 => 0
  | n + 1 => dc_z a n + (if a n = 0 then 1 else 0)
theorem dc_z_s (a : Nat → Int32) (n : Nat) : dc_z a (n + 1) = dc_z a n + (if a n = 0 then 1 else 0) := rfl
theorem dc_z_far {a : Nat → Int32} {c : Nat} {x : Int32} : ∀ n, n ≤ c → dc_z (upd a c x) n = dc_z a n := by
  intro n
  induction n with
  | zero => intro _; rfl
  | succ n ih =>
    intro h
    rw [dc_z_s, dc_z_s, ih (by omega), pk_un (by omega)]
theorem dc_z_upd {a : Nat → Int32} {c : Nat} {x : Int32} (hc : a c = 0) (hx : ¬ x = 0) : ∀ n, c < n → dc_z (upd a c x) n + 1 = dc_z a n := by
  intro n
  induction n with
  | zero => intro h; omega
  | succ n ih =>
    intro h
    rw [dc_z_s, dc_z_s]
    rcases Nat.lt_or_ge c n with z | z
    · rw [pk_un (by omega : n ≠ c)]
      have := ih z
      omega
    · have e : n = c := by omega
      subst e
      rw [dc_z_far _ (Nat.le_refl _), pk_us, if_neg hx, if_pos hc]
theorem dc_z_0 : dc_z (fun _ => 0) 8 = 8 := by decide +kernel
/-- the char of a small clock is the clock -/
theorem dc_st {c : Nat} (h : c < 65536) : vp_nar .char ((nI c).toUInt32 % 65536).toInt32 = nI c := by
  rw [pk_vc, pk_char, pk_tn (by omega), Nat.mod_eq_of_lt h]
theorem dc_b1 : vp_nar .boolean 1 = 1 := rfl
theorem dc_bit (m : Int32) {l : Nat} (hl : l < 32) : (m &&& ((1 : Int32) <<< (nI l &&& 31))) = 0 ↔ bt m l = false := by
  rw [← Int32.toBitVec_inj, Int32.toBitVec_and, nf_sh l hl, BitVec.and_twoPow]
  show _ = 0#32 ↔ m.toBitVec.getLsbD l = false
  cases hb : m.toBitVec.getLsbD l
  · exact ⟨fun _ => rfl, fun _ => by simp⟩
  · exact ⟨fun z => absurd ((if_pos rfl).symm.trans z) (nf_tp l hl), fun z => by cases z⟩
theorem dc_mask : ∀ l, l < 8 → ∀ i, i < 8 → bt ((1 : Int32) <<< (nI l &&& 31)) i = decide (i = l) := by decide +kernel
theorem dc_ix {x y : Nat} (hx : x < 8) (hy : y < 8) : nI x * 8 + nI y = nI (x * 8 + y) := by
  show nI x * nI 8 + nI y = _
  rw [pk_mul, nI_add]
theorem dc_le7 {j : Nat} (h : j ≤ 7) : nI j ≤ 7 := nI_le (b := 7) h (by decide)
theorem dc_nle7 {j : Nat} (h : 7 < j) (hj : j < 2 ^ 31) : ¬ nI j ≤ 7 := nI_ge (a := 7) h hj
theorem dc_lt7 {j : Nat} (h : 7 < j) (hj : j < 2 ^ 31) : (7 : Int32) < nI j := nI_lt (a := 7) h hj
theorem dc_nlt7 {j : Nat} (h : j ≤ 7) : ¬ (7 : Int32) < nI j := nI_nlt (a := 7) h (by decide)
theorem dc_ge8 {j : Nat} (h : 8 ≤ j) (hj : j < 2 ^ 31) : (8 : Int32) ≤ nI j := nI_le (a := 8) h hj
theorem dc_nge8 {j : Nat} (h : j < 8) : ¬ (8 : Int32) ≤ nI j := nI_ge (b := 8) h (by decide)
theorem dc_nlt8 {j : Nat} (h : 8 ≤ j) (hj : j < 2 ^ 31) : ¬ nI j < 8 := nI_nlt (b := 8) h hj
theorem dc_le15 {j : Nat} (h : j ≤ 15) : nI j ≤ 15 := nI_le (b := 15) h (by decide)
theorem dc_nle15 {j : Nat} (h : 15 < j) (hj : j < 2 ^ 31) : ¬ nI j ≤ 15 := nI_ge (a := 15) h hj
theorem dc_lt15 {j : Nat} (h : 15 < j) (hj : j < 2 ^ 31) : (15 : Int32) < nI j := nI_lt (a := 15) h hj
theorem dc_nlt15 {j : Nat} (h : j ≤ 15) : ¬ (15 : Int32) < nI j := nI_nlt (a := 15) h (by decide)
theorem dc_s8 {j : Nat} (h : 8 ≤ j) : nI j - 8 = nI (j - 8) := pk_sub (b := 8) h
/-- the two arc tables: bit v of row u against cell 8 u + v -/
def dc_Adj (ax ay : Nat → Int32) : Prop := ∀ u v, u < 8 → v < 8 → (bt (ax u) v = false ↔ ay (u * 8 + v) = 0)
theorem dc_adj0 : dc_Adj (fun _ => 0) (fun _ => 0) := fun _ _ _ _ => ⟨fun _ => rfl, fun _ => BitVec.getLsbD_zero⟩
theorem dc_adjU {ax ay : Nat → Int32} (A : dc_Adj ax ay) {u v : Nat} (hu : u < 8) (hv : v < 8) : dc_Adj (upd ax u (ax u ||| ((1 : Int32) <<< (nI v &&& 31)))) (upd ay (u * 8 + v) 1) := by
  intro p q hp hq
  by_cases e : p = u
  · subst e
    rw [pk_us, b_or, dc_mask v hv q hq]
    by_cases f : q = v
    · subst f
      rw [pk_us, decide_eq_true rfl, Bool.or_true]
      exact ⟨fun z => absurd z (by decide), fun z => absurd z (by decide)⟩
    · rw [pk_un (by omega), decide_eq_false f, Bool.or_false]
      exact A p q hp hq
  · rw [pk_un e, pk_un (by omega)]
    exact A p q hp hq
end
section
/-- the stack's lower s cells: vertices below 8, cursors up to 8 -/
def dc_Stk (s : Nat) (sv sc : Nat → Int32) : Prop := ∀ j, j < s → (∃ x, x < 8 ∧ sv j = nI x) ∧ (∃ y, y ≤ 8 ∧ sc j = nI y)
theorem dc_stk_pop {s : Nat} {sv sc : Nat → Int32} (h : dc_Stk (s + 1) sv sc) : dc_Stk s sv sc := fun j hj => h j (by omega)
theorem dc_stk_cur {s t y : Nat} {sv sc : Nat → Int32} (h : dc_Stk s sv sc) (hy : y ≤ 8) : dc_Stk s sv (upd sc t (nI y)) := by
  intro j hj
  refine ⟨(h j hj).1, ?_⟩
  by_cases e : j = t
  · subst e; exact ⟨y, hy, pk_us⟩
  · rw [pk_un e]; exact (h j hj).2
theorem dc_stk_push {s y : Nat} {sv sc : Nat → Int32} (h : dc_Stk s sv sc) (hy : y < 8) : dc_Stk (s + 1) (upd sv s (nI y)) (upd sc s 0) := by
  intro j hj
  by_cases e : j = s
  · subst e; exact ⟨⟨y, hy, pk_us⟩, ⟨0, by omega, pk_us⟩⟩
  · rw [pk_un e, pk_un e]; exact h j (by omega)
/-- the loop in lockstep: one outcome serves both walks, whatever is asked behind -/
theorem dc_loop {ax ay : Nat → Int32} (A : dc_Adj ax ay) : ∀ (M c s : Nat) (ain aout sv sc : Nat → Int32), c + 2 * dc_z ain 8 + s = 16 → s + dc_z ain 8 ≤ 8 → dc_Stk s sv sc → (2 * dc_z ain 8 + s) * 10 + 8 < M + (sc (s - 1)).toNatClampNeg → (2 * dc_z ain 8 + s) * 10 < M →
    ∃ (c' : Nat) (ain' aout' sv' sc' : Nat → Int32), c' + 2 * dc_z ain' 8 = 16 ∧
      (∀ post : Int32 → SX → Prop, post (nI c') (nI c', ax, ain', aout', sv', sc') → wX_walk_65 post M (nI s) (nI c) ax ain aout sv sc) ∧
      (∀ post : Int32 → SY → Prop, post (nI c') (nI c', ay, ain', aout', sv', sc') → wY_walk_60 post M (nI s) (nI c) ay ain aout sv sc) := by
  intro M
  induction M with
  | zero => intro c s ain aout sv sc _ _ _ _ h; omega
  | succ M ih =>
    intro c s ain aout sv sc hc hs hk hm hm'
    rcases s with _ | t
    · have h0 : nI 0 ≤ 0 := nI_le (b := 0) (Nat.le_refl _) (by decide)
      exact ⟨c, ain, aout, sv, sc, by omega, fun post hp => br_t h0 hp, fun post hp => br_t h0 hp⟩
    · have h0 : ¬ nI (t + 1) ≤ 0 := nI_nle (by omega) (by omega)
      have hin : vp_in (nI (t + 1) - 1) 8 := by rw [nI_pred]; exact vp_in_nI (by omega) (by decide)
      have hcl : (nI (t + 1) - 1).toNatClampNeg = t := by rw [nI_pred]; exact nI_clamp (by omega)
      obtain ⟨⟨x, hx, ex⟩, ⟨y, hy, ey⟩⟩ := hk t (by omega)
      have hsv : sv (nI (t + 1) - 1).toNatClampNeg = nI x := by rw [hcl, ex]
      have hsc : sc (nI (t + 1) - 1).toNatClampNeg = nI y := by rw [hcl, ey]
      have hxc : (nI x).toNatClampNeg = x := nI_clamp (by omega)
      have hyc : (nI y).toNatClampNeg = y := nI_clamp (by omega)
      have hxi : vp_in (nI x) 8 := vp_in_nI hx (by decide)
      have hmy : (2 * dc_z ain 8 + (t + 1)) * 10 + 8 < M + 1 + y := by
        have e : (sc (t + 1 - 1)).toNatClampNeg = y := by rw [Nat.add_sub_cancel, ey, hyc]
        rw [e] at hm; exact hm
      rcases Nat.lt_or_ge 7 y with hy7 | hy7
      · -- the cursor is through: the vertex is left
        obtain ⟨c', ain', aout', sv', sc', hc', hX, hY⟩ := ih (c + 1) t ain (upd aout x (nI (c + 1))) sv sc (by omega) (by omega) (dc_stk_pop hk) (by omega) (by omega)
        have ho : upd aout (nI x).toNatClampNeg (vp_nar .char ((nI (c + 1)).toUInt32 % 65536).toInt32) = upd aout x (nI (c + 1)) := by rw [hxc, dc_st (by omega)]
        refine ⟨c', ain', aout', sv', sc', hc', fun post hp => ?_, fun post hp => ?_⟩
        · exact br_f h0 ⟨hin, nm_r (e' := nI x) hsv ⟨hin, nm_r (e' := nI y) hsc (br_f (dc_nle7 hy7 (by omega)) (nm_r (e' := nI (c + 1)) (nI_1 c) ⟨hxi, nm_r (e' := upd aout x (nI (c + 1))) ho (nm_r (e' := nI t) (nI_pred t) (hX post hp))⟩))⟩⟩
        · exact br_f h0 ⟨hin, nm_r (e' := nI x) hsv ⟨hin, nm_r (e' := nI y) hsc (br_t (dc_ge8 hy7 (by omega)) (nm_r (e' := nI (c + 1)) (nI_1 c) ⟨hxi, nm_r (e' := upd aout x (nI (c + 1))) ho (nm_r (e' := nI t) (nI_pred t) (hY post hp))⟩))⟩⟩
      · have hy8 : y < 8 := by omega
        have hyi : vp_in (nI y) 8 := vp_in_nI hy8 (by decide)
        have hcur : upd sc (nI (t + 1) - 1).toNatClampNeg (nI y + 1) = upd sc t (nI (y + 1)) := by rw [hcl, nI_1]
        have hix : vp_in (nI x * 8 + nI y) 64 := by rw [dc_ix hx hy8]; exact vp_in_nI (by omega) (by decide)
        have hixc : (nI x * 8 + nI y).toNatClampNeg = x * 8 + y := by rw [dc_ix hx hy8]; exact nI_clamp (by omega)
        have hXb : (ax (nI x).toNatClampNeg &&& ((1 : Int32) <<< (nI y &&& 31))) = 0 ↔ bt (ax x) y = false := by rw [hxc]; exact dc_bit _ (by omega)
        have hYb : ay (nI x * 8 + nI y).toNatClampNeg = 0 ↔ bt (ax x) y = false := by rw [hixc]; exact (A x y hx hy8).symm
        have hI : ain (nI y).toNatClampNeg = ain y := by rw [hyc]
        by_cases hb : bt (ax x) y = false
        · obtain ⟨c', ain', aout', sv', sc', hc', hX, hY⟩ := ih c (t + 1) ain aout sv (upd sc t (nI (y + 1))) (by omega) (by omega) (dc_stk_cur hk (by omega)) (by rw [Nat.add_sub_cancel, pk_us, nI_clamp (by omega)]; omega) (by omega)
          refine ⟨c', ain', aout', sv', sc', hc', fun post hp => ?_, fun post hp => ?_⟩
          · exact br_f h0 ⟨hin, nm_r (e' := nI x) hsv ⟨hin, nm_r (e' := nI y) hsc (br_t (dc_le7 hy7) ⟨hin, nm_r (e' := upd sc t (nI (y + 1))) hcur ⟨hxi, br_t (hXb.mpr hb) (hX post hp)⟩⟩)⟩⟩
          · exact br_f h0 ⟨hin, nm_r (e' := nI x) hsv ⟨hin, nm_r (e' := nI y) hsc (br_f (dc_nge8 hy8) ⟨hin, nm_r (e' := upd sc t (nI (y + 1))) hcur ⟨hix, br_t (hYb.mpr hb) (hY post hp)⟩⟩)⟩⟩
        · have hXn := fun z => hb (hXb.mp z)
          have hYn := fun z => hb (hYb.mp z)
          by_cases hz : ain y = 0
          · have hz' : ain (nI y).toNatClampNeg = 0 := hI.trans hz
            have hne : ¬ nI (c + 1) = 0 := nI_ne0 (by omega) (by omega)
            have hzz := dc_z_upd (x := nI (c + 1)) hz hne 8 hy8
            have ht : t + 1 < 8 := by omega
            have hsi : vp_in (nI (t + 1)) 8 := vp_in_nI ht (by decide)
            have hscl : (nI (t + 1)).toNatClampNeg = t + 1 := nI_clamp (by omega)
            have ho : upd ain (nI y).toNatClampNeg (vp_nar .char ((nI (c + 1)).toUInt32 % 65536).toInt32) = upd ain y (nI (c + 1)) := by rw [hyc, dc_st (by omega)]
            have hv : upd sv (nI (t + 1)).toNatClampNeg (nI y) = upd sv (t + 1) (nI y) := by rw [hscl]
            have hc2 : upd (upd sc t (nI (y + 1))) (nI (t + 1)).toNatClampNeg 0 = upd (upd sc t (nI (y + 1))) (t + 1) 0 := by rw [hscl]
            obtain ⟨c', ain', aout', sv', sc', hc', hX, hY⟩ := ih (c + 1) (t + 1 + 1) (upd ain y (nI (c + 1))) aout (upd sv (t + 1) (nI y)) (upd (upd sc t (nI (y + 1))) (t + 1) 0) (by omega) (by omega) (dc_stk_push (dc_stk_cur hk (by omega)) hy8) (by omega) (by omega)
            refine ⟨c', ain', aout', sv', sc', hc', fun post hp => ?_, fun post hp => ?_⟩
            · exact br_f h0 ⟨hin, nm_r (e' := nI x) hsv ⟨hin, nm_r (e' := nI y) hsc (br_t (dc_le7 hy7) ⟨hin, nm_r (e' := upd sc t (nI (y + 1))) hcur ⟨hxi, br_f hXn ⟨hyi, br_t hz' (br_f (dc_nge8 ht) (nm_r (e' := nI (c + 1)) (nI_1 c) ⟨hyi, nm_r (e' := upd ain y (nI (c + 1))) ho ⟨hsi, nm_r (e' := upd sv (t + 1) (nI y)) hv ⟨hsi, nm_r (e' := upd (upd sc t (nI (y + 1))) (t + 1) 0) hc2 (nm_r (e' := nI (t + 1 + 1)) (nI_1 (t + 1)) (hX post hp))⟩⟩⟩))⟩⟩⟩)⟩⟩
            · exact br_f h0 ⟨hin, nm_r (e' := nI x) hsv ⟨hin, nm_r (e' := nI y) hsc (br_f (dc_nge8 hy8) ⟨hin, nm_r (e' := upd sc t (nI (y + 1))) hcur ⟨hix, br_f hYn ⟨hyi, br_t hz' (nm_r (e' := nI (c + 1)) (nI_1 c) ⟨hyi, nm_r (e' := upd ain y (nI (c + 1))) ho ⟨hsi, nm_r (e' := upd sv (t + 1) (nI y)) hv ⟨hsi, nm_r (e' := upd (upd sc t (nI (y + 1))) (t + 1) 0) hc2 (nm_r (e' := nI (t + 1 + 1)) (nI_1 (t + 1)) (hY post hp))⟩⟩⟩)⟩⟩⟩)⟩⟩
          · have hz' : ¬ ain (nI y).toNatClampNeg = 0 := fun z => hz (hI.symm.trans z)
            obtain ⟨c', ain', aout', sv', sc', hc', hX, hY⟩ := ih c (t + 1) ain aout sv (upd sc t (nI (y + 1))) (by omega) (by omega) (dc_stk_cur hk (by omega)) (by rw [Nat.add_sub_cancel, pk_us, nI_clamp (by omega)]; omega) (by omega)
            refine ⟨c', ain', aout', sv', sc', hc', fun post hp => ?_, fun post hp => ?_⟩
            · exact br_f h0 ⟨hin, nm_r (e' := nI x) hsv ⟨hin, nm_r (e' := nI y) hsc (br_t (dc_le7 hy7) ⟨hin, nm_r (e' := upd sc t (nI (y + 1))) hcur ⟨hxi, br_f hXn ⟨hyi, br_f hz' (hX post hp)⟩⟩⟩)⟩⟩
            · exact br_f h0 ⟨hin, nm_r (e' := nI x) hsv ⟨hin, nm_r (e' := nI y) hsc (br_f (dc_nge8 hy8) ⟨hin, nm_r (e' := upd sc t (nI (y + 1))) hcur ⟨hix, br_f hYn ⟨hyi, br_f hz' (hY post hp)⟩⟩⟩)⟩⟩
end
section
/-- one clock, one pair of stamp tables, one stack (what lies in it is free between calls); the arc tables agree; the clock has counted two stamps for each vertex that was entered -/
def i_Rel (_ : Nat) (u : SX) (v : SY) : Prop := ∃ (c : Nat) (ax ay ain aout sv sc : Nat → Int32), u = (nI c, ax, ain, aout, sv, sc) ∧ v = (nI c, ay, ain, aout, sv, sc) ∧ dc_Adj ax ay ∧ c + 2 * dc_z ain 8 = 16
theorem i_up {k : Nat} {u : SX} {v : SY} (h : i_Rel k u v) : i_Rel (k + 3) u v := h
theorem i_vc0 : wpX_init (fun u => wpY_init (fun v => i_Rel 0 u v)) := ⟨0, fun _ => 0, fun _ => 0, fun _ => 0, fun _ => 0, fun _ => 0, fun _ => 0, rfl, rfl, dc_adj0, by rw [dc_z_0]⟩
theorem i_vc_arc {k : Nat} {u : SX} {v : SY} (I : i_Rel k u v) (hk : k + 3 ≤ 1536) (v1 : Int32) (v2 : Int32) : wpX_arc (fun r u' => wpY_arc (fun r' v' => r' = r ∧ i_Rel (k + 3) u' v') v v1 v2) u v1 v2 := by
  have J := i_up I
  obtain ⟨c, ax, ay, ain, aout, sv, sc, rfl, rfl, A, hc⟩ := I
  by_cases h1 : v1 < 0
  · exact br_t h1 (br_t h1 ⟨rfl, J⟩)
  by_cases h2 : 7 < v1
  · exact br_f h1 (br_t h2 (br_f h1 (br_t h2 ⟨rfl, J⟩)))
  by_cases h3 : v2 < 0
  · exact br_f h1 (br_f h2 (br_t h3 (br_f h1 (br_f h2 (br_t h3 ⟨rfl, J⟩)))))
  by_cases h4 : v2 ≤ 7
  · obtain ⟨x, hx, rfl⟩ := nI_of2 (M := 7) (n := 7) (by decide) h1 (Int32.not_lt.mp h2)
    obtain ⟨y, hy, rfl⟩ := nI_of2 (M := 7) (n := 7) (by decide) h3 h4
    have hx8 : x < 8 := by omega
    have hy8 : y < 8 := by omega
    have hxc : (nI x).toNatClampNeg = x := nI_clamp (by omega)
    have hxi : vp_in (nI x) 8 := vp_in_nI hx8 (by decide)
    have hix : vp_in (nI x * 8 + nI y) 64 := by rw [dc_ix hx8 hy8]; exact vp_in_nI (by omega) (by decide)
    have hixc : (nI x * 8 + nI y).toNatClampNeg = x * 8 + y := by rw [dc_ix hx8 hy8]; exact nI_clamp (by omega)
    have hXb : (ax (nI x).toNatClampNeg &&& ((1 : Int32) <<< (nI y &&& 31))) = 0 ↔ bt (ax x) y = false := by rw [hxc]; exact dc_bit _ (by omega)
    have hYb : ay (nI x * 8 + nI y).toNatClampNeg = 0 ↔ bt (ax x) y = false := by rw [hixc]; exact (A x y hx8 hy8).symm
    by_cases hb : bt (ax x) y = false
    · have hXu : upd ax (nI x).toNatClampNeg (ax (nI x).toNatClampNeg ||| ((1 : Int32) <<< (nI y &&& 31))) = upd ax x (ax x ||| ((1 : Int32) <<< (nI y &&& 31))) := by rw [hxc]
      have hYu : upd ay (nI x * 8 + nI y).toNatClampNeg (vp_nar .boolean 1) = upd ay (x * 8 + y) 1 := by rw [hixc, dc_b1]
      refine br_f h1 (br_f h2 (br_f h3 (br_t h4 (nm_e ⟨hxi, br_t (hXb.mpr hb) ⟨hxi, hxi, nm_r (e' := upd ax x (ax x ||| ((1 : Int32) <<< (nI y &&& 31)))) hXu ?_⟩⟩))))
      refine br_f h1 (br_f h2 (br_f h3 (br_t h4 ⟨hix, br_t (hYb.mpr hb) ⟨hix, nm_r (e' := upd ay (x * 8 + y) 1) hYu ?_⟩⟩)))
      exact ⟨rfl, c, _, _, ain, aout, sv, sc, rfl, rfl, dc_adjU A hx8 hy8, hc⟩
    · refine br_f h1 (br_f h2 (br_f h3 (br_t h4 (nm_e ⟨hxi, br_f (fun z => hb (hXb.mp z)) ?_⟩))))
      exact br_f h1 (br_f h2 (br_f h3 (br_t h4 ⟨hix, br_f (fun z => hb (hYb.mp z)) ⟨rfl, J⟩⟩)))
  · exact br_f h1 (br_f h2 (br_f h3 (br_f h4 (br_f h1 (br_f h2 (br_f h3 (br_f h4 ⟨rfl, J⟩)))))))
theorem i_vc_walk {k : Nat} {u : SX} {v : SY} (I : i_Rel k u v) (hk : k + 3 ≤ 1536) (v1 : Int32) : wpX_walk (fun r u' => wpY_walk (fun r' v' => r' = r ∧ i_Rel (k + 3) u' v') v v1) u v1 := by
  have J := i_up I
  obtain ⟨c, ax, ay, ain, aout, sv, sc, rfl, rfl, A, hc⟩ := I
  by_cases h1 : v1 < 0
  · exact br_t h1 (br_t h1 ⟨rfl, J⟩)
  by_cases h2 : v1 ≤ 7
  · obtain ⟨x, hx, rfl⟩ := nI_of2 (M := 7) (n := 7) (by decide) h1 h2
    have hx8 : x < 8 := by omega
    have hxc : (nI x).toNatClampNeg = x := nI_clamp (by omega)
    have hxi : vp_in (nI x) 8 := vp_in_nI hx8 (by decide)
    have hI : ain (nI x).toNatClampNeg = ain x := by rw [hxc]
    by_cases hz : ain x = 0
    · have hz' : ain (nI x).toNatClampNeg = 0 := hI.trans hz
      have hne : ¬ nI (c + 1) = 0 := nI_ne0 (by omega) (by omega)
      have hzz := dc_z_upd (x := nI (c + 1)) hz hne 8 hx8
      have ho : upd ain (nI x).toNatClampNeg (vp_nar .char ((nI (c + 1)).toUInt32 % 65536).toInt32) = upd ain x (nI (c + 1)) := by rw [hxc, dc_st (by omega)]
      have hk0 : dc_Stk 0 sv sc := fun j hj => absurd hj (Nat.not_lt_zero j)
      obtain ⟨c', ain', aout', sv', sc', hc', hX, hY⟩ := dc_loop A 400 (c + 1) 1 (upd ain x (nI (c + 1))) aout (upd sv 0 (nI x)) (upd sc 0 0) (by omega) (by omega) (dc_stk_push hk0 hx8) (by omega) (by omega)
      refine br_f h1 (br_t h2 ⟨hxi, br_t hz' (nm_r (e' := nI (c + 1)) (nI_1 c) ⟨hxi, nm_r (e' := upd ain x (nI (c + 1))) ho (nm_e (nm_e ⟨400, hX _ ?_⟩))⟩)⟩)
      refine br_f h1 (br_t h2 ⟨hxi, br_t hz' (nm_r (e' := nI (c + 1)) (nI_1 c) ⟨hxi, nm_r (e' := upd ain x (nI (c + 1))) ho (nm_e (nm_e ⟨400, hY _ ?_⟩))⟩)⟩)
      exact ⟨rfl, c', ax, ay, ain', aout', sv', sc', rfl, rfl, A, hc'⟩
    · have hz' : ¬ ain (nI x).toNatClampNeg = 0 := fun z => hz (hI.symm.trans z)
      exact br_f h1 (br_t h2 ⟨hxi, br_f hz' (br_f h1 (br_t h2 ⟨hxi, br_f hz' ⟨rfl, J⟩⟩))⟩)
  · exact br_f h1 (br_f h2 (br_f h1 (br_f h2 ⟨rfl, J⟩)))
/-- one answer for both -/
theorem dc_enc (c : Int32) (ax ay ain aout sv sc : Nat → Int32) (a b : Int32) : ∃ r : Int32, (∀ post : Int32 → Prop, post r → wpX_encloses post (c, ax, ain, aout, sv, sc) a b) ∧ (∀ post : Int32 → Prop, post r → wpY_encloses post (c, ay, ain, aout, sv, sc) a b) := by
  by_cases h1 : a < 0
  · exact ⟨0, fun _ hp => br_t h1 hp, fun _ hp => br_t h1 hp⟩
  by_cases h2 : 7 < a
  · exact ⟨0, fun _ hp => br_f h1 (br_t h2 hp), fun _ hp => br_f h1 (br_t h2 hp)⟩
  by_cases h3 : b < 0
  · exact ⟨0, fun _ hp => br_f h1 (br_f h2 (br_t h3 hp)), fun _ hp => br_f h1 (br_f h2 (br_t h3 hp))⟩
  by_cases h4 : b ≤ 7
  · have ha : vp_in a 8 := by
      obtain ⟨x, hx, rfl⟩ := nI_of2 (M := 7) (n := 7) (by decide) h1 (Int32.not_lt.mp h2)
      exact vp_in_nI (by omega) (by decide)
    have hb : vp_in b 8 := by
      obtain ⟨x, hx, rfl⟩ := nI_of2 (M := 7) (n := 7) (by decide) h3 h4
      exact vp_in_nI (by omega) (by decide)
    by_cases h5 : ain a.toNatClampNeg = 0
    · exact ⟨0, fun _ hp => br_f h1 (br_f h2 (br_f h3 (br_t h4 ⟨ha, br_t h5 hp⟩))), fun _ hp => br_f h1 (br_f h2 (br_f h3 (br_t h4 ⟨ha, br_t h5 hp⟩)))⟩
    by_cases h6 : ain b.toNatClampNeg = 0
    · exact ⟨0, fun _ hp => br_f h1 (br_f h2 (br_f h3 (br_t h4 ⟨ha, br_f h5 ⟨hb, br_t h6 hp⟩⟩))), fun _ hp => br_f h1 (br_f h2 (br_f h3 (br_t h4 ⟨ha, br_f h5 ⟨hb, br_t h6 hp⟩⟩)))⟩
    by_cases h7 : ain b.toNatClampNeg < ain a.toNatClampNeg
    · exact ⟨0, fun _ hp => br_f h1 (br_f h2 (br_f h3 (br_t h4 ⟨ha, br_f h5 ⟨hb, br_f h6 ⟨ha, hb, br_t h7 hp⟩⟩⟩))), fun _ hp => br_f h1 (br_f h2 (br_f h3 (br_t h4 ⟨ha, br_f h5 ⟨hb, br_f h6 ⟨ha, hb, br_t h7 hp⟩⟩⟩)))⟩
    by_cases h8 : aout a.toNatClampNeg < aout b.toNatClampNeg
    · exact ⟨0, fun _ hp => br_f h1 (br_f h2 (br_f h3 (br_t h4 ⟨ha, br_f h5 ⟨hb, br_f h6 ⟨ha, hb, br_f h7 ⟨hb, ha, br_t h8 hp⟩⟩⟩⟩))), fun _ hp => br_f h1 (br_f h2 (br_f h3 (br_t h4 ⟨ha, br_f h5 ⟨hb, br_f h6 ⟨ha, hb, br_f h7 ⟨hb, ha, br_t h8 hp⟩⟩⟩⟩)))⟩
    exact ⟨1, fun _ hp => br_f h1 (br_f h2 (br_f h3 (br_t h4 ⟨ha, br_f h5 ⟨hb, br_f h6 ⟨ha, hb, br_f h7 ⟨hb, ha, br_f h8 hp⟩⟩⟩⟩))), fun _ hp => br_f h1 (br_f h2 (br_f h3 (br_t h4 ⟨ha, br_f h5 ⟨hb, br_f h6 ⟨ha, hb, br_f h7 ⟨hb, ha, br_f h8 hp⟩⟩⟩⟩)))⟩
  · exact ⟨0, fun _ hp => br_f h1 (br_f h2 (br_f h3 (br_f h4 hp))), fun _ hp => br_f h1 (br_f h2 (br_f h3 (br_f h4 hp)))⟩
theorem i_vc_encloses {k : Nat} {u : SX} {v : SY} (I : i_Rel k u v) (hk : k + 3 ≤ 1536) (v1 : Int32) (v2 : Int32) : wpX_encloses (fun r => wpY_encloses (fun r' => r' = r ∧ i_Rel (k + 3) u v) v v1 v2) u v1 v2 := by
  have J := i_up I
  obtain ⟨c, ax, ay, ain, aout, sv, sc, rfl, rfl, A, hc⟩ := I
  obtain ⟨r, hX, hY⟩ := dc_enc (nI c) ax ay ain aout sv sc v1 v2
  exact hX _ (hY _ ⟨rfl, J⟩)
theorem i_vc_stamp {k : Nat} {u : SX} {v : SY} (I : i_Rel k u v) (hk : k + 3 ≤ 1536) (v1 : Int32) : wpX_stamp (fun r => wpY_stamp (fun r' => r' = r ∧ i_Rel (k + 3) u v) v v1) u v1 := by
  have J := i_up I
  obtain ⟨c, ax, ay, ain, aout, sv, sc, rfl, rfl, A, hc⟩ := I
  by_cases h1 : v1 < 0
  · have h8 : v1 < 8 := Int32.lt_trans h1 (by decide)
    refine br_t h1 ?_
    unfold wX_stamp_17
    exact br_t h8 (br_t h1 ⟨rfl, J⟩)
  obtain ⟨j, hj, rfl⟩ := nI_of h1
  rcases Nat.lt_or_ge 7 j with h7 | h7
  · refine br_f h1 (br_t (dc_lt7 h7 hj) ?_)
    unfold wX_stamp_17
    rcases Nat.lt_or_ge 15 j with h15 | h15
    · exact br_f (dc_nlt8 h7 hj) (br_t (dc_lt15 h15 hj) (br_f h1 (br_f (dc_nle15 h15 hj) ⟨rfl, J⟩)))
    · have hi : vp_in (nI j - 8) 8 := by rw [dc_s8 h7]; exact vp_in_nI (by omega) (by decide)
      exact br_f (dc_nlt8 h7 hj) (br_f (dc_nlt15 h15) ⟨hi, br_f h1 (br_t (dc_le15 h15) (br_t (dc_ge8 h7 hj) ⟨hi, rfl, J⟩))⟩)
  · have hi : vp_in (nI j) 8 := vp_in_nI (by omega) (by decide)
    exact br_f h1 (br_f (dc_nlt7 h7) ⟨hi, br_f h1 (br_t (dc_le15 (by omega)) (br_f (dc_nge8 (by omega)) ⟨hi, rfl, J⟩))⟩)
end
