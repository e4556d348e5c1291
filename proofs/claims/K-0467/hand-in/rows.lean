section
/-- bit t of a long -/
def mx_b (x : Int64) (t : Nat) : Bool := x.toBitVec.getLsbD t
theorem mx_ext {x y : Int64} (h : ∀ t, t < 64 → mx_b x t = mx_b y t) : x = y := by
  apply Int64.toBitVec_inj.mp
  apply BitVec.eq_of_getLsbD_eq
  intro t ht
  exact h t ht
theorem mx_or (x y : Int64) (t : Nat) : mx_b (x ||| y) t = (mx_b x t || mx_b y t) := by
  unfold mx_b
  rw [Int64.toBitVec_or, BitVec.getLsbD_or]
theorem mx_and (x y : Int64) (t : Nat) : mx_b (x &&& y) t = (mx_b x t && mx_b y t) := by
  unfold mx_b
  rw [Int64.toBitVec_and, BitVec.getLsbD_and]
theorem mx_0 (t : Nat) : mx_b 0 t = false := by
  show (0#64).getLsbD t = false
  exact BitVec.getLsbD_zero
/-- a bit behind an unsigned shift right -/
theorem mx_sh {s : UInt64} {k : Nat} (hk : k < 64) (hs : s.toNat = k) (w : Int64) (t : Nat) : mx_b (w.toUInt64 >>> s).toInt64 t = mx_b w (k + t) := by
  have e : (w.toUInt64 >>> s).toInt64.toBitVec = w.toBitVec >>> k := by
    apply BitVec.eq_of_toNat_eq
    show (w.toUInt64 >>> s).toNat = _
    rw [UInt64.toNat_shiftRight, hs, Nat.mod_eq_of_lt hk, BitVec.toNat_ushiftRight]
    rfl
  unfold mx_b
  rw [e, BitVec.getLsbD_ushiftRight]
theorem mx_s8 : ∀ r, r < 8 → ((8 * nI r).toInt64.toUInt64 &&& Int64.toUInt64 63).toNat = 8 * r := by decide +kernel
theorem mx_s1 : ∀ r, r < 8 → ((nI r).toInt64.toUInt64 &&& Int64.toUInt64 63).toNat = r := by decide +kernel
theorem mx_255 : ∀ t, t < 64 → mx_b 255 t = decide (t < 8) := by decide +kernel
theorem mx_1 : ∀ t, t < 64 → mx_b 1 t = decide (t = 0) := by decide +kernel
/-- the mask of row i -/
theorem mx_row : ∀ i, i < 8 → ∀ t, t < 64 → mx_b ((255 : Int64) <<< ((8 * nI i).toInt64 &&& 63)) t = decide (t / 8 = i) := by decide +kernel
/-- the mask of all but column i -/
theorem mx_col : ∀ i, i < 8 → ∀ t, t < 64 → mx_b (((72340172838076673 : Int64) <<< ((nI i).toInt64 &&& 63)) ^^^ (-1)) t = !decide (t % 8 = i) := by decide +kernel
theorem mx_one : ∀ i, i < 64 → ∀ t, t < 64 → mx_b ((1 : Int64) <<< ((nI i).toInt64 &&& 63)) t = decide (t = i) := by decide +kernel
theorem mx_div : ∀ i, i < 64 → nI i >>> ((3 : Int32) &&& 31) = nI (i / 8) := by decide +kernel
theorem mx_mod : ∀ i, i < 64 → nI i &&& 7 = nI (i % 8) := by decide +kernel
/-- X's test for an empty row -/
theorem mx_zero {w : Int64} {r : Nat} (hr : r < 8) : ((w.toUInt64 >>> ((8 * nI r).toInt64.toUInt64 &&& Int64.toUInt64 63)).toInt64 &&& 255) = 0 ↔ ∀ j, j < 8 → mx_b w (8 * r + j) = false := by
  have hs : ∀ t, mx_b (w.toUInt64 >>> ((8 * nI r).toInt64.toUInt64 &&& Int64.toUInt64 63)).toInt64 t = mx_b w (8 * r + t) := mx_sh (by omega) (mx_s8 r hr) w
  constructor
  · intro h j hj
    have t : mx_b ((w.toUInt64 >>> ((8 * nI r).toInt64.toUInt64 &&& Int64.toUInt64 63)).toInt64 &&& 255) j = mx_b 0 j := by rw [h]
    rw [mx_and, hs, mx_255 j (by omega), mx_0, decide_eq_true hj, Bool.and_true] at t
    exact t
  · intro h
    apply mx_ext
    intro t ht
    rw [mx_and, hs, mx_255 t ht, mx_0]
    by_cases hj : t < 8
    · rw [h t hj, Bool.false_and]
    · rw [decide_eq_false hj, Bool.and_false]
/-- X's test of one bit of a row -/
theorem mx_bit {w : Int64} {j : Nat} (hj : j < 8) : ((w.toUInt64 >>> ((nI j).toInt64.toUInt64 &&& Int64.toUInt64 63)).toInt64 &&& 1) = 0 ↔ mx_b w j = false := by
  have hs : ∀ t, mx_b (w.toUInt64 >>> ((nI j).toInt64.toUInt64 &&& Int64.toUInt64 63)).toInt64 t = mx_b w (j + t) := mx_sh (by omega) (mx_s1 j hj) w
  have h1 : mx_b 1 0 = true := by decide
  constructor
  · intro h
    have t : mx_b ((w.toUInt64 >>> ((nI j).toInt64.toUInt64 &&& Int64.toUInt64 63)).toInt64 &&& 1) 0 = mx_b 0 0 := by rw [h]
    rw [mx_and, hs, h1, mx_0, Bool.and_true, Nat.add_zero] at t
    exact t
  · intro h
    apply mx_ext
    intro t ht
    rw [mx_and, hs, mx_1 t ht, mx_0]
    by_cases e : t = 0
    · rw [e, Nat.add_zero, h, Bool.false_and]
    · rw [decide_eq_false e, Bool.and_false]
/-- X's row as rank takes it -/
theorem mx_rowBits {w : Int64} {r : Nat} (hr : r < 8) {j : Nat} (hj : j < 8) : mx_b ((w.toUInt64 >>> ((8 * nI r).toInt64.toUInt64 &&& Int64.toUInt64 63)).toInt64 &&& 255) j = mx_b w (8 * r + j) := by
  rw [mx_and, mx_sh (by omega) (mx_s8 r hr), mx_255 j (by omega), decide_eq_true hj, Bool.and_true]
end
section
theorem mx_tr {x y z : Int64} (h : x ≤ y) (g : y ≤ z) : x ≤ z := by
  rw [Int64.le_iff_toInt_le] at h g ⊢
  omega
theorem mx_nl {x y : Int64} (h : ¬ x ≤ y) : y ≤ x := by
  rw [Int64.le_iff_toInt_le] at h ⊢
  omega
theorem mx_rf (x : Int64) : x ≤ x := by
  rw [Int64.le_iff_toInt_le]
  omega
/-- the matrix's bit t: the stamp of its row is above the stamp of its column -/
def mx_R (u : Int64) (a : Nat → Int64) : Prop := ∀ t, t < 64 → mx_b u t = decide (¬ a (t / 8) ≤ a (t % 8))
theorem mx_R_at {u : Int64} {a : Nat → Int64} (h : mx_R u a) {r j : Nat} (hr : r < 8) (hj : j < 8) : mx_b u (8 * r + j) = decide (¬ a r ≤ a j) := by
  have g := h (8 * r + j) (by omega)
  have e1 : (8 * r + j) / 8 = r := by omega
  have e2 : (8 * r + j) % 8 = j := by omega
  rw [e1, e2] at g
  exact g
/-- Y's raw collects the matrix -/
theorem mx_rawL {u c : Int64} {a : Nat → Int64} (h : mx_R u a) {post : Int64 → Prop} (hp : post u) : ∀ (d i : Nat) (x : Int64), i + d = 64 → (∀ t, t < 64 → mx_b x t = (decide (t < i) && mx_b u t)) → wY_raw_4 post c a (d + 1) x (nI i) := by
  intro d
  induction d with
  | zero =>
    intro i x hi hx
    have e : x = u := mx_ext (fun t ht => by rw [hx t ht, decide_eq_true (show t < i by omega), Bool.true_and])
    have h64 : (64 : Int32) ≤ nI i := nI_le (a := 64) (by omega) (by omega)
    have hp' : post x := by rw [e]; exact hp
    exact br_t h64 hp'
  | succ d ih =>
    intro i x hi hx
    have h64 : ¬ (64 : Int32) ≤ nI i := nI_ge (b := 64) (by omega) (by omega)
    have hd := mx_div i (by omega)
    have hm := mx_mod i (by omega)
    have hid : vp_in (nI i >>> ((3 : Int32) &&& 31)) 8 := by rw [hd]; exact vp_in_nI (by omega) (by omega)
    have him : vp_in (nI i &&& 7) 8 := by rw [hm]; exact vp_in_nI (by omega) (by omega)
    have ed : (nI i >>> ((3 : Int32) &&& 31)).toNatClampNeg = i / 8 := by rw [hd]; exact nI_clamp (by omega)
    have em : (nI i &&& 7).toNatClampNeg = i % 8 := by rw [hm]; exact nI_clamp (by omega)
    have hb := h i (by omega)
    by_cases z : a (i / 8) ≤ a (i % 8)
    · have z' : a (nI i >>> ((3 : Int32) &&& 31)).toNatClampNeg ≤ a (nI i &&& 7).toNatClampNeg := by rw [ed, em]; exact z
      have bf : mx_b u i = false := by rw [hb]; exact decide_eq_false (not_not_intro z)
      refine br_f h64 ⟨hid, him, br_t z' (nm_r (nI_1 i) (ih (i + 1) x (by omega) ?_))⟩
      intro t ht
      rw [hx t ht]
      by_cases e : t = i
      · rw [e, bf, Bool.and_false, Bool.and_false]
      · rw [show decide (t < i) = decide (t < i + 1) from decide_eq_decide.mpr (by omega)]
    · have z' : ¬ a (nI i >>> ((3 : Int32) &&& 31)).toNatClampNeg ≤ a (nI i &&& 7).toNatClampNeg := by rw [ed, em]; exact z
      have bt' : mx_b u i = true := by rw [hb]; exact decide_eq_true z
      refine br_f h64 ⟨hid, him, br_f z' (nm_e (nm_r (nI_1 i) (ih (i + 1) _ (by omega) ?_)))⟩
      intro t ht
      rw [mx_or, hx t ht, mx_one i (by omega) t ht]
      by_cases e : t = i
      · rw [e, bt', decide_eq_true (show i = i from rfl), decide_eq_true (show i < i + 1 by omega), Bool.or_true, Bool.true_and]
      · rw [decide_eq_false e, Bool.or_false, show decide (t < i) = decide (t < i + 1) from decide_eq_decide.mpr (by omega)]
theorem mx_rawY {u c : Int64} {a : Nat → Int64} (h : mx_R u a) {post : Int64 → Prop} (hp : post u) : wpY_raw post (c, a) := by
  have K : wY_raw_4 post c a (64 + 1) 0 (nI 0) := mx_rawL h hp 64 0 0 rfl (fun t _ => by
    rw [mx_0, decide_eq_false (Nat.not_lt_zero t), Bool.false_and])
  rw [nI_0] at K
  exact Exists.intro 65 K
/-- b is the first of the least stamps below e -/
def mx_M (a : Nat → Int64) (b e : Nat) : Prop := b < e ∧ (∀ j, j < e → a b ≤ a j) ∧ ∀ j, j < b → ¬ a j ≤ a b
theorem mx_oldY (c : Int64) (a : Nat → Int64) : ∀ d e b : Nat, e + d = 8 → mx_M a b e → ∃ q, mx_M a q 8 ∧ ∀ post : Int32 → Prop, post (nI q) → wY_oldest_4 post c a (d + 1) (nI b) (nI e) := by
  intro d
  induction d with
  | zero =>
    intro e b he hM
    have e8 : e = 8 := by omega
    rw [e8] at hM ⊢
    have h8 : (8 : Int32) ≤ nI 8 := nI_le (a := 8) (b := 8) (by omega) (by omega)
    exact ⟨b, hM, fun post hp => br_t h8 hp⟩
  | succ d ih =>
    intro e b he hM
    have hbe := hM.1
    have h8 : ¬ (8 : Int32) ≤ nI e := nI_ge (b := 8) (by omega) (by omega)
    have hie : vp_in (nI e) 8 := vp_in_nI (by omega) (by omega)
    have hib : vp_in (nI b) 8 := vp_in_nI (by omega) (by omega)
    have ee : (nI e).toNatClampNeg = e := nI_clamp (by omega)
    have eb : (nI b).toNatClampNeg = b := nI_clamp (by omega)
    by_cases z : a b ≤ a e
    · have z' : a (nI b).toNatClampNeg ≤ a (nI e).toNatClampNeg := by rw [ee, eb]; exact z
      have hM' : mx_M a b (e + 1) := ⟨by omega, fun j hj => by
        by_cases je : j = e
        · rw [je]; exact z
        · exact hM.2.1 j (by omega), hM.2.2⟩
      obtain ⟨q, hq, hY⟩ := ih (e + 1) b (by omega) hM'
      exact ⟨q, hq, fun post hp => br_f h8 ⟨hie, hib, br_t z' (nm_r (nI_1 e) (hY post hp))⟩⟩
    · have z' : ¬ a (nI b).toNatClampNeg ≤ a (nI e).toNatClampNeg := by rw [ee, eb]; exact z
      have hM' : mx_M a e (e + 1) := ⟨by omega, fun j hj => by
        by_cases je : j = e
        · rw [je]; exact mx_rf _
        · exact mx_tr (mx_nl z) (hM.2.1 j (by omega)), fun j hj hn => z (mx_tr (hM.2.1 j hj) hn)⟩
      obtain ⟨q, hq, hY⟩ := ih (e + 1) e (by omega) hM'
      exact ⟨q, hq, fun post hp => br_f h8 ⟨hie, hib, br_f z' (nm_r (nI_1 e) (hY post hp))⟩⟩
theorem mx_oldX {u : Int64} {a : Nat → Int64} (h : mx_R u a) {q : Nat} (hq : mx_M a q 8) {post : Int32 → Prop} (hp : post (nI q)) : ∀ d r : Nat, r + d = q → wX_oldest_2 post u (d + 1) (nI r) := by
  have hq8 := hq.1
  intro d
  induction d with
  | zero =>
    intro r hr
    have e : r = q := by omega
    rw [e]
    have h8 : ¬ (8 : Int32) ≤ nI q := nI_ge (b := 8) (by omega) (by omega)
    have hz := (mx_zero (w := u) hq8).mpr (fun j hj => by
      rw [mx_R_at h hq8 hj]
      exact decide_eq_false (not_not_intro (hq.2.1 j hj)))
    exact br_f h8 (br_t hz hp)
  | succ d ih =>
    intro r hr
    have hr8 : r < 8 := by omega
    have h8 : ¬ (8 : Int32) ≤ nI r := nI_ge (b := 8) (by omega) (by omega)
    have hz : ¬ ((u.toUInt64 >>> ((8 * nI r).toInt64.toUInt64 &&& Int64.toUInt64 63)).toInt64 &&& 255) = 0 := fun z => by
      have g := (mx_zero hr8).mp z q hq8
      rw [mx_R_at h hr8 hq8] at g
      exact of_decide_eq_false g (hq.2.2 r (by omega))
    exact br_f h8 (br_f hz (nm_r (nI_1 r) (ih (r + 1) (by omega))))
/-- rank: both sides count the same bits -/
theorem mx_rankL {u c w : Int64} {a : Nat → Int64} (h : mx_R u a) {i : Nat} (hi : i < 8) (hw : ∀ j, j < 8 → mx_b w j = mx_b u (8 * i + j)) : ∀ (d j : Nat) (x : Int32), j + d = 8 → ∃ r : Int32, (∀ post : Int32 → Prop, post r → wX_rank_32 post w u (d + 1) x (nI j)) ∧ (∀ post : Int32 → Prop, post r → wY_rank_16 post (nI i) c a (d + 1) x (nI j)) := by
  intro d
  induction d with
  | zero =>
    intro j x hj
    have h8 : (8 : Int32) ≤ nI j := nI_le (a := 8) (by omega) (by omega)
    exact ⟨x, fun _ hp => br_t h8 hp, fun _ hp => br_t h8 hp⟩
  | succ d ih =>
    intro j x hj
    have hj8 : j < 8 := by omega
    have h8 : ¬ (8 : Int32) ≤ nI j := nI_ge (b := 8) (by omega) (by omega)
    have hii : vp_in (nI i) 8 := vp_in_nI hi (by omega)
    have hij : vp_in (nI j) 8 := vp_in_nI hj8 (by omega)
    have ei : (nI i).toNatClampNeg = i := nI_clamp (by omega)
    have ej : (nI j).toNatClampNeg = j := nI_clamp (by omega)
    have hb : mx_b w j = decide (¬ a i ≤ a j) := by rw [hw j hj8, mx_R_at h hi hj8]
    by_cases z : a i ≤ a j
    · have z' : a (nI i).toNatClampNeg ≤ a (nI j).toNatClampNeg := by rw [ei, ej]; exact z
      have hz := (mx_bit (w := w) hj8).mpr (by rw [hb]; exact decide_eq_false (not_not_intro z))
      obtain ⟨r, hX, hY⟩ := ih (j + 1) x (by omega)
      exact ⟨r, fun post hp => br_f h8 (br_t hz (nm_r (nI_1 j) (hX post hp))), fun post hp => br_f h8 ⟨hii, hij, br_t z' (nm_r (nI_1 j) (hY post hp))⟩⟩
    · have z' : ¬ a (nI i).toNatClampNeg ≤ a (nI j).toNatClampNeg := by rw [ei, ej]; exact z
      have hz : ¬ ((w.toUInt64 >>> ((nI j).toInt64.toUInt64 &&& Int64.toUInt64 63)).toInt64 &&& 1) = 0 := fun y => by
        have g := (mx_bit hj8).mp y
        rw [hb] at g
        exact of_decide_eq_false g z
      obtain ⟨r, hX, hY⟩ := ih (j + 1) (x + 1) (by omega)
      exact ⟨r, fun post hp => br_f h8 (br_f hz (nm_e (nm_r (nI_1 j) (hX post hp)))), fun post hp => br_f h8 ⟨hii, hij, br_f z' (nm_e (nm_r (nI_1 j) (hY post hp)))⟩⟩
theorem mx_us {a : Nat → Int64} {i : Nat} {x : Int64} : vp_updL a i x i = x := if_pos rfl
theorem mx_un {a : Nat → Int64} {i j : Nat} {x : Int64} (h : ¬ j = i) : vp_updL a i x j = a j := if_neg h
/-- a use: row i set, column i cleared; the stamp of i above all -/
theorem mx_useR {u : Int64} {a : Nat → Int64} {n i : Nat} (hn : n < 1024) (hi : i < 8) (ha : ∀ j, j < 8 → a j ≤ lN n) (h : mx_R u a) : (∀ j, j < 8 → vp_updL a i (lN (n + 1)) j ≤ lN (n + 1)) ∧ mx_R ((u ||| ((255 : Int64) <<< ((8 * nI i).toInt64 &&& 63))) &&& (((72340172838076673 : Int64) <<< ((nI i).toInt64 &&& 63)) ^^^ (-1))) (vp_updL a i (lN (n + 1))) := by
  have hs : lN n ≤ lN (n + 1) := (lN_le (by omega) (by omega)).mpr (by omega)
  have hns : ¬ lN (n + 1) ≤ lN n := fun g => by
    have g' := (lN_le (by omega) (by omega)).mp g
    omega
  have hle : ∀ j, j < 8 → vp_updL a i (lN (n + 1)) j ≤ lN (n + 1) := fun j hj => by
    by_cases e : j = i
    · rw [e, mx_us]; exact mx_rf _
    · rw [mx_un e]; exact mx_tr (ha j hj) hs
  refine ⟨hle, ?_⟩
  intro t ht
  rw [mx_and, mx_or, mx_row i hi t ht, mx_col i hi t ht, h t ht]
  by_cases e1 : t % 8 = i
  · have g : vp_updL a i (lN (n + 1)) (t / 8) ≤ vp_updL a i (lN (n + 1)) (t % 8) := by
      rw [e1, mx_us]; exact hle _ (by omega)
    rw [decide_eq_true e1, decide_eq_false (not_not_intro g), Bool.not_true, Bool.and_false]
  · by_cases e2 : t / 8 = i
    · have g : ¬ vp_updL a i (lN (n + 1)) (t / 8) ≤ vp_updL a i (lN (n + 1)) (t % 8) := by
        rw [e2, mx_us, mx_un e1]
        exact fun y => hns (mx_tr y (ha _ (by omega)))
      rw [decide_eq_false e1, decide_eq_true e2, decide_eq_true g, Bool.not_false, Bool.or_true, Bool.and_true]
    · rw [mx_un e1, mx_un e2, decide_eq_false e1, decide_eq_false e2, Bool.not_false, Bool.or_false, Bool.and_true]
end
section
/-- the clock is a small number n that grows with the turns, no stamp is above it, and the matrix is the table of 'is stamped later' -/
def i_Rel (k : Nat) (u : SX) (v : SY) : Prop := ∃ n : Nat, n ≤ k ∧ v.1 = lN n ∧ (∀ j, j < 8 → v.2 j ≤ lN n) ∧ mx_R u v.2
theorem i_up {k : Nat} {u : SX} {v : SY} (h : i_Rel k u v) : i_Rel (k + 2) u v := by
  obtain ⟨n, hn, r⟩ := h
  exact ⟨n, by omega, r⟩
theorem i_vc0 : wpX_init (fun u => wpY_init (fun v => i_Rel 0 u v)) := by
  show i_Rel 0 0 (0, fun _ => 0)
  refine ⟨0, Nat.le_refl 0, rfl, fun j _ => mx_rf 0, fun t _ => ?_⟩
  rw [mx_0]
  exact (decide_eq_false (not_not_intro (mx_rf 0))).symm
theorem i_vc_use {k : Nat} {u : SX} {v : SY} (I : i_Rel k u v) (hk : k + 2 ≤ 1024) (v1 : Int32) : wpX_use (fun r u' => wpY_use (fun r' v' => r' = r ∧ i_Rel (k + 2) u' v') v v1) u v1 := by
  have J := i_up I
  obtain ⟨c, a⟩ := v
  obtain ⟨n, hn, hc, ha, h⟩ := I
  have hc' : c = lN n := hc
  subst hc'
  by_cases h0 : v1 < 0
  · exact br_t h0 (br_t h0 ⟨rfl, J⟩)
  · by_cases h7 : v1 ≤ 7
    · obtain ⟨i, hi, rfl⟩ := nI_of2 (n := 7) (by decide) h0 h7
      have g := mx_useR (u := u) (a := a) (n := n) (i := i) (by omega) (by omega) ha h
      refine br_f h0 (br_t h7 (nm_e (nm_e ?_)))
      refine br_f h0 (br_t h7 (nm_r (lN_1 n) (And.intro (vp_in_nI (by omega) (by omega)) (nm_r (e' := vp_updL a i (lN (n + 1))) (by rw [nI_clamp (by omega), lN_1]) ?_))))
      exact mx_rawY g.2 ⟨rfl, n + 1, by omega, rfl, g.1, g.2⟩
    · exact br_f h0 (br_f h7 (br_f h0 (br_f h7 ⟨rfl, J⟩)))
theorem i_vc_oldest {k : Nat} {u : SX} {v : SY} (I : i_Rel k u v) (hk : k + 2 ≤ 1024) : wpX_oldest (fun r => wpY_oldest (fun r' => r' = r ∧ i_Rel (k + 2) u v) v) u := by
  have J := i_up I
  obtain ⟨c, a⟩ := v
  obtain ⟨n, hn, hc, ha, h⟩ := I
  have hM : mx_M a 0 1 := ⟨by omega, fun j hj => by
    have e : j = 0 := by omega
    rw [e]; exact mx_rf _, fun j hj => absurd hj (Nat.not_lt_zero j)⟩
  obtain ⟨q, hq, hY⟩ := mx_oldY c a 7 1 0 rfl hM
  refine Exists.intro (q + 1) (mx_oldX h hq ?_ q 0 (by omega))
  exact Exists.intro 8 (hY _ ⟨rfl, J⟩)
theorem i_vc_rank {k : Nat} {u : SX} {v : SY} (I : i_Rel k u v) (hk : k + 2 ≤ 1024) (v1 : Int32) : wpX_rank (fun r => wpY_rank (fun r' => r' = r ∧ i_Rel (k + 2) u v) v v1) u v1 := by
  have J := i_up I
  obtain ⟨c, a⟩ := v
  obtain ⟨n, hn, hc, ha, h⟩ := I
  by_cases h0 : v1 < 0
  · exact br_t h0 (br_t h0 ⟨rfl, J⟩)
  · by_cases h7 : v1 ≤ 7
    · obtain ⟨i, hi, rfl⟩ := nI_of2 (n := 7) (by decide) h0 h7
      have hi8 : i < 8 := by omega
      obtain ⟨r, hX, hY⟩ := mx_rankL (c := c) h hi8 (fun j hj => mx_rowBits (w := u) hi8 hj) 8 0 0 rfl
      refine br_f h0 (br_t h7 (nm_e (Exists.intro 9 (hX _ ?_))))
      exact br_f h0 (br_t h7 (Exists.intro 9 (hY _ ⟨rfl, J⟩)))
    · exact br_f h0 (br_f h7 (br_f h0 (br_f h7 ⟨rfl, J⟩)))
theorem i_vc_raw {k : Nat} {u : SX} {v : SY} (I : i_Rel k u v) (hk : k + 2 ≤ 1024) : wpX_raw (fun r => wpY_raw (fun r' => r' = r ∧ i_Rel (k + 2) u v) v) u := by
  have J := i_up I
  obtain ⟨c, a⟩ := v
  obtain ⟨n, hn, hc, ha, h⟩ := I
  exact mx_rawY (c := c) h ⟨rfl, J⟩
end
