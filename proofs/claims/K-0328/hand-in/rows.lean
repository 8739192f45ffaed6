section
/-! ===== Int32 by its bits: bt x i ===== -/
def bt (x : Int32) (i : Nat) : Bool := x.toBitVec.getLsbD i
theorem b_ext {x y : Int32} (h : ∀ i, i < 32 → bt x i = bt y i) : x = y := Int32.toBitVec_inj.mp (BitVec.eq_of_getLsbD_eq (fun i hi => h i hi))
theorem b_or (x y : Int32) (i : Nat) : bt (x ||| y) i = (bt x i || bt y i) := by unfold bt; rw [Int32.toBitVec_or, BitVec.getLsbD_or]
theorem b_and (x y : Int32) (i : Nat) : bt (x &&& y) i = (bt x i && bt y i) := by unfold bt; rw [Int32.toBitVec_and, BitVec.getLsbD_and]
theorem b_xor (x y : Int32) (i : Nat) : bt (x ^^^ y) i = (bt x i ^^ bt y i) := by unfold bt; rw [Int32.toBitVec_xor, BitVec.getLsbD_xor]
theorem b_big {x : Int32} {i : Nat} (h : 32 ≤ i) : bt x i = false := BitVec.getLsbD_of_ge _ _ h
theorem b_255 (i : Nat) : bt 255 i = decide (i < 8) := by
  rcases Nat.lt_or_ge i 32 with h | h
  · exact (by decide +kernel : ∀ i, i < 32 → bt 255 i = decide (i < 8)) i h
  · rw [b_big h, decide_eq_false (by omega)]
theorem b_65535 (i : Nat) : bt 65535 i = decide (i < 16) := by
  rcases Nat.lt_or_ge i 32 with h | h
  · exact (by decide +kernel : ∀ i, i < 32 → bt 65535 i = decide (i < 16)) i h
  · rw [b_big h, decide_eq_false (by omega)]
theorem b_m1 : ∀ i, i < 32 → bt (-1) i = true := by decide +kernel
theorem b_0 (i : Nat) : bt 0 i = false := BitVec.getLsbD_zero
theorem s_l : ∀ n, n < 32 → ((nI n &&& 31).toBitVec.smod 32).toNat = n := by decide +kernel
theorem s_u : ∀ n, n < 32 → (((nI n).toUInt32 &&& Int32.toUInt32 31).toBitVec % 32).toNat = n := by decide +kernel
theorem b_shl (n : Nat) (hn : n < 32) (x : Int32) {i : Nat} (hi : i < 32) : bt (x <<< (nI n &&& 31)) i = (decide (n ≤ i) && bt x (i - n)) := by
  unfold bt
  rw [Int32.toBitVec_shiftLeft]
  show (x.toBitVec <<< ((nI n &&& 31).toBitVec.smod 32).toNat).getLsbD i = _
  rw [s_l n hn, BitVec.getLsbD_shiftLeft]
  rcases Nat.lt_or_ge i n with h | h
  · simp [h, Nat.not_le.mpr h]
  · simp [hi, h, Nat.not_lt.mpr h]
theorem b_ushr (n : Nat) (hn : n < 32) (x : Int32) (i : Nat) : bt ((x.toUInt32 >>> ((nI n).toUInt32 &&& Int32.toUInt32 31)).toInt32) i = bt x (n + i) := by
  show (x.toUInt32 >>> ((nI n).toUInt32 &&& Int32.toUInt32 31)).toBitVec.getLsbD i = x.toUInt32.toBitVec.getLsbD (n + i)
  rw [UInt32.toBitVec_shiftRight]
  show (x.toUInt32.toBitVec >>> (((nI n).toUInt32 &&& Int32.toUInt32 31).toBitVec % 32).toNat).getLsbD i = _
  rw [s_u n hn, BitVec.getLsbD_ushiftRight]
theorem b_sshr (n : Nat) (hn : n < 32) (x : Int32) {i : Nat} (hi : i < 32) : bt (x >>> (nI n &&& 31)) i = if n + i < 32 then bt x (n + i) else bt x 31 := by
  unfold bt
  rw [Int32.toBitVec_shiftRight]
  show (x.toBitVec.sshiftRight ((nI n &&& 31).toBitVec.smod 32).toNat).getLsbD i = _
  rw [s_l n hn, BitVec.getLsbD_sshiftRight, BitVec.msb_eq_getLsbD_last]
  simp [hi]
theorem b_shl8 (x : Int32) {i : Nat} (hi : i < 32) : bt (x <<< ((8 : Int32) &&& 31)) i = (decide (8 ≤ i) && bt x (i - 8)) := b_shl 8 (by omega) x hi
theorem b_shl16 (x : Int32) {i : Nat} (hi : i < 32) : bt (x <<< ((16 : Int32) &&& 31)) i = (decide (16 ≤ i) && bt x (i - 16)) := b_shl 16 (by omega) x hi
theorem b_shl24 (x : Int32) {i : Nat} (hi : i < 32) : bt (x <<< ((24 : Int32) &&& 31)) i = (decide (24 ≤ i) && bt x (i - 24)) := b_shl 24 (by omega) x hi
theorem b_sshr8 (x : Int32) {i : Nat} (hi : i < 32) : bt (x >>> ((8 : Int32) &&& 31)) i = if 8 + i < 32 then bt x (8 + i) else bt x 31 := b_sshr 8 (by omega) x hi
theorem pk_us {f : Nat → Int32} {k : Nat} {x : Int32} : upd f k x k = x := if_pos rfl
theorem pk_un {f : Nat → Int32} {k j : Nat} {x : Int32} (h : j ≠ k) : upd f k x j = f j := if_neg h
theorem pk_vb (z : Int32) : vp_nar .byte z.toInt8.toInt32 = z.toInt8.toInt32 := by rw [vp_nar_byte]; simp
end
section
/-! ===== bits of a mask ===== -/
/-- the byte cast is the pair of shifts -/
theorem gm_b8 (x : Int32) : (x <<< ((24 : Int32) &&& 31)) >>> ((24 : Int32) &&& 31) = x.toInt8.toInt32 := by
  apply b_ext
  intro i hi
  have h1 : bt ((x <<< ((24 : Int32) &&& 31)) >>> ((24 : Int32) &&& 31)) i = if 24 + i < 32 then bt (x <<< ((24 : Int32) &&& 31)) (24 + i) else bt (x <<< ((24 : Int32) &&& 31)) 31 := b_sshr 24 (by omega) _ hi
  have h2 : bt x.toInt8.toInt32 i = if i < 8 then bt x i else bt x 7 := by
    unfold bt
    rw [Int8.toBitVec_toInt32, Int32.toBitVec_toInt8, BitVec.getLsbD_signExtend]
    rcases Nat.lt_or_ge i 8 with z | z
    · rw [if_pos z, if_pos z, BitVec.getLsbD_signExtend, if_pos hi]
      simp only [z, hi, decide_true, Bool.true_and]
    · rw [if_neg (by omega), if_neg (by omega), BitVec.msb_eq_getLsbD_last, BitVec.getLsbD_signExtend]
      simp [hi]
  rw [h1, h2]
  rcases Nat.lt_or_ge i 8 with z | z
  · rw [if_pos z, if_pos (by omega), b_shl24 x (by omega), decide_eq_true (by omega), Bool.true_and, show 24 + i - 24 = i by omega]
  · rw [if_neg (by omega), if_neg (by omega), b_shl24 x (by omega), decide_eq_true (by omega), Bool.true_and]
theorem gm_1 (i : Nat) : bt 1 i = decide (i = 0) := by
  rcases Nat.lt_or_ge i 32 with h | h
  · exact (by decide +kernel : ∀ i, i < 32 → bt 1 i = decide (i = 0)) i h
  · rw [b_big h, decide_eq_false (by omega)]
theorem gm_bY (x : Int32) {p : Nat} (hp : p < 32) : ((x >>> (nI p &&& 31)) &&& 1) = 0 ↔ bt x p = false := by
  constructor
  · intro h
    have h0 : bt ((x >>> (nI p &&& 31)) &&& 1) 0 = bt 0 0 := by rw [h]
    rw [b_and, b_sshr p hp x (by omega), if_pos (by omega), b_0, gm_1] at h0
    simpa using h0
  · intro h
    apply b_ext
    intro i hi
    rw [b_and, b_0, gm_1, b_sshr p hp x hi]
    by_cases z : i = 0
    · subst z
      rw [if_pos (by omega), Nat.add_zero, h]
      rfl
    · rw [decide_eq_false z, Bool.and_false]
theorem gm_bX (x : Int32) {p : Nat} (hp : p < 32) : (x &&& ((1 : Int32) <<< (nI p &&& 31))) = 0 ↔ bt x p = false := by
  constructor
  · intro h
    have h0 : bt (x &&& ((1 : Int32) <<< (nI p &&& 31))) p = bt 0 p := by rw [h]
    rw [b_and, b_shl p hp 1 hp, b_0, gm_1] at h0
    simpa using h0
  · intro h
    apply b_ext
    intro i hi
    rw [b_and, b_0, b_shl p hp 1 hi, gm_1]
    by_cases z : i = p
    · subst z
      rw [h, Bool.false_and]
    · by_cases w : p ≤ i
      · rw [decide_eq_false (show ¬ i - p = 0 by omega), Bool.and_false, Bool.and_false]
      · rw [decide_eq_false w, Bool.false_and, Bool.and_false]
theorem gm_or {x y : Int32} (h : x &&& y = 0) : x + y = x ||| y := by
  apply Int32.toBitVec_inj.mp
  rw [Int32.toBitVec_add, Int32.toBitVec_or]
  apply BitVec.add_eq_or_of_and_eq_zero
  rw [← Int32.toBitVec_and, h]
  rfl
/-! ===== the relation ===== -/
/-- n nodes, no two with one pair; a mask beyond them is 0 -/
def gm_Inv (n : Nat) (s l m : Nat → Int32) : Prop := n ≤ 8 ∧ (∀ j, n ≤ j → m j = 0) ∧ (∀ i j, i < n → j < n → s i = s j → l i = l j → i = j)
/-- both states are one and the same, and it is a good one -/
def i_Rel (_ : Nat) (u : SX) (v : SY) : Prop := ∃ (n : Nat) (e : Int32) (s l m : Nat → Int32), u = (nI n, e, s, l, m) ∧ v = (nI n, e, s, l, m) ∧ gm_Inv n s l m
theorem i_up {k : Nat} {u : SX} {v : SY} (h : i_Rel k u v) : i_Rel (k + 4) u v := h
theorem i_vc0 : wpX_init (fun u => wpY_init (fun v => i_Rel 0 u v)) :=
  ⟨0, 0, fun _ => 0, fun _ => 0, fun _ => 0, rfl, rfl, by omega, fun _ _ => rfl, fun i j hi => absurd hi (Nat.not_lt_zero i)⟩
/-! ===== the edge behind the search ===== -/
theorem gm_jX {post : Int32 → SX → Prop} {x1 c e : Int32} {s l m : Nat → Int32} {j : Nat} (hj : j < 8) (h1 : x1 < 0 → post (nI j) (c, e, s, l, m)) (h2 : ¬ x1 < 0 → (m j &&& ((1 : Int32) <<< (x1 &&& 31))) = 0 → post (nI j) (c, e + 1, s, l, upd m j (m j ||| ((1 : Int32) <<< (x1 &&& 31))))) (h3 : ¬ x1 < 0 → ¬ (m j &&& ((1 : Int32) <<< (x1 &&& 31))) = 0 → post (nI j) (c, e, s, l, m)) : wX_push_136 post x1 (nI j) c e s l m := by
  have hi : vp_in (nI j) 8 := vp_in_nI hj (by omega)
  unfold wX_push_136
  rw [nI_clamp (by omega)]
  exact br_c h1 (fun hn => nm_e ⟨hi, br_c (fun z => ⟨hi, hi, nm_e (nm_e (h2 hn z))⟩) (fun z => h3 hn z)⟩)
theorem gm_jY {post : Int32 → SY → Prop} {x1 c e : Int32} {s l m : Nat → Int32} {j : Nat} (hj : j < 8) (hx : ¬ x1 < 0 → ∃ p, p < 32 ∧ x1 = nI p) (h1 : x1 < 0 → post (nI j) (c, e, s, l, m)) (h2 : ¬ x1 < 0 → (m j &&& ((1 : Int32) <<< (x1 &&& 31))) = 0 → post (nI j) (c, e + 1, s, l, upd m j (m j ||| ((1 : Int32) <<< (x1 &&& 31))))) (h3 : ¬ x1 < 0 → ¬ (m j &&& ((1 : Int32) <<< (x1 &&& 31))) = 0 → post (nI j) (c, e, s, l, m)) : wY_push_130 post x1 (nI j) c e s l m := by
  have hi : vp_in (nI j) 8 := vp_in_nI hj (by omega)
  unfold wY_push_130
  rw [nI_clamp (by omega)]
  refine br_c h1 (fun hn => ⟨hi, ?_⟩)
  obtain ⟨p, hp, rfl⟩ := hx hn
  refine br_c (fun z => ⟨hi, hi, nm_e (nm_e ?_)⟩) (fun z => h3 hn (fun w => z ((gm_bY _ hp).mpr ((gm_bX _ hp).mp w))))
  have w : (m j &&& ((1 : Int32) <<< (nI p &&& 31))) = 0 := (gm_bX _ hp).mpr ((gm_bY _ hp).mp z)
  rw [gm_or w]
  exact h2 hn w
theorem gm_join {x1 : Int32} (hx : ¬ x1 < 0 → ∃ p, p < 32 ∧ x1 = nI p) {j n : Nat} (hj : j < n) (c e : Int32) {s l m : Nat → Int32} (H : gm_Inv n s l m) : ∃ (e' : Int32) (m' : Nat → Int32), gm_Inv n s l m' ∧ (∀ post : Int32 → SX → Prop, post (nI j) (c, e', s, l, m') → wX_push_136 post x1 (nI j) c e s l m) ∧ (∀ post : Int32 → SY → Prop, post (nI j) (c, e', s, l, m') → wY_push_130 post x1 (nI j) c e s l m) := by
  have h8 : j < 8 := Nat.lt_of_lt_of_le hj H.1
  by_cases a : x1 < 0
  · exact ⟨e, m, H, fun post h => gm_jX h8 (fun _ => h) (fun z => absurd a z) (fun z => absurd a z), fun post h => gm_jY h8 hx (fun _ => h) (fun z => absurd a z) (fun z => absurd a z)⟩
  · by_cases b : (m j &&& ((1 : Int32) <<< (x1 &&& 31))) = 0
    · refine ⟨e + 1, upd m j (m j ||| ((1 : Int32) <<< (x1 &&& 31))), ⟨H.1, ?_, H.2.2⟩, fun post h => gm_jX h8 (fun z => absurd z a) (fun _ _ => h) (fun _ z => absurd b z), fun post h => gm_jY h8 hx (fun z => absurd z a) (fun _ _ => h) (fun _ z => absurd b z)⟩
      intro i hi
      rw [pk_un (by omega)]
      exact H.2.1 i hi
    · exact ⟨e, m, H, fun post h => gm_jX h8 (fun _ => h) (fun _ z => absurd z b) (fun _ _ => h), fun post h => gm_jY h8 hx (fun _ => h) (fun _ z => absurd z b) (fun _ _ => h)⟩
/-! ===== the search: t i is the node found among the first i ===== -/
def gm_T (n : Nat) (s l : Nat → Int32) (x4 x5 : Int32) (t : Nat → Int32) : Prop := t 0 = -1 ∧ (∀ i, i < n → s i = x4 → l i = x5 → t i = -1 ∧ t (i + 1) = nI i) ∧ (∀ i, i < n → ¬ (s i = x4 ∧ l i = x5) → t (i + 1) = t i)
theorem gm_lX {post : Int32 → SX → Prop} {x1 x4 x5 e : Int32} {s l m : Nat → Int32} {n : Nat} {t : Nat → Int32} (hn : n ≤ 8) (hT : gm_T n s l x4 x5 t) (K : wX_push_30 post x1 x4 x5 (nI n) e s l m 1 (t n) (nI n)) : ∀ d i : Nat, i + d = n → wX_push_30 post x1 x4 x5 (nI n) e s l m (d + 1) (t i) (nI i) := by
  intro d
  induction d with
  | zero =>
    intro i hi
    obtain rfl : i = n := by omega
    exact K
  | succ d ih =>
    intro i hi
    have h : ¬ nI n ≤ nI i := nI_ge (by omega) (by omega)
    have hin : vp_in (nI i) 8 := vp_in_nI (by omega) (by omega)
    have I := ih (i + 1) (by omega)
    rw [wX_push_30]
    try dsimp only
    rw [nI_clamp (n := i) (by omega)]
    by_cases a : s i = x4
    · by_cases b : l i = x5
      · obtain ⟨h1, h2⟩ := hT.2.1 i (by omega) a b
        have h0 : ¬ (0 : Int32) ≤ t i := by rw [h1]; decide
        rw [h2] at I
        exact br_f h (br_f h0 ⟨hin, br_t a ⟨hin, br_t b (nm_r (nI_1 i) I)⟩⟩)
      · rw [hT.2.2 i (by omega) (fun z => b z.2)] at I
        exact br_f h (br_c (fun _ => nm_r (nI_1 i) I) (fun _ => ⟨hin, br_t a ⟨hin, br_f b (nm_r (nI_1 i) I)⟩⟩))
    · rw [hT.2.2 i (by omega) (fun z => a z.1)] at I
      exact br_f h (br_c (fun _ => nm_r (nI_1 i) I) (fun _ => ⟨hin, br_f a (nm_r (nI_1 i) I)⟩))
theorem gm_lY {post : Int32 → SY → Prop} {x1 x4 x5 e : Int32} {s l m : Nat → Int32} {n : Nat} {t : Nat → Int32} (hn : n ≤ 8) (hT : gm_T n s l x4 x5 t) (K : wY_push_40 post x1 x4 x5 (nI n) e s l m 1 (t n) (nI n)) : ∀ d i : Nat, i + d = n → wY_push_40 post x1 x4 x5 (nI n) e s l m (d + 1) (t i) (nI i) := by
  intro d
  induction d with
  | zero =>
    intro i hi
    obtain rfl : i = n := by omega
    exact K
  | succ d ih =>
    intro i hi
    have h : ¬ nI n ≤ nI i := nI_ge (by omega) (by omega)
    have hin : vp_in (nI i) 8 := vp_in_nI (by omega) (by omega)
    have I := ih (i + 1) (by omega)
    rw [wY_push_40]
    try dsimp only
    rw [nI_clamp (n := i) (by omega)]
    by_cases a : s i = x4
    · by_cases b : l i = x5
      · obtain ⟨h1, h2⟩ := hT.2.1 i (by omega) a b
        rw [h2] at I
        exact br_f h ⟨hin, br_t a ⟨hin, br_t b (nm_r (nI_1 i) I)⟩⟩
      · rw [hT.2.2 i (by omega) (fun z => b z.2)] at I
        exact br_f h ⟨hin, br_t a ⟨hin, br_f b (nm_r (nI_1 i) I)⟩⟩
    · rw [hT.2.2 i (by omega) (fun z => a z.1)] at I
      exact br_f h ⟨hin, br_f a (nm_r (nI_1 i) I)⟩
theorem gm_eX {post : Int32 → SX → Prop} {x1 x4 x5 e : Int32} {s l m : Nat → Int32} {n : Nat} {t : Nat → Int32} (hn : n ≤ 8) (hT : gm_T n s l x4 x5 t) (K : wX_push_30 post x1 x4 x5 (nI n) e s l m 1 (t n) (nI n)) : ∃ f : Nat, wX_push_30 post x1 x4 x5 (nI n) e s l m f (-1) 0 := by
  have h := gm_lX hn hT K n 0 (by omega)
  rw [hT.1, nI_0] at h
  exact ⟨n + 1, h⟩
theorem gm_eY {post : Int32 → SY → Prop} {x1 x4 x5 e : Int32} {s l m : Nat → Int32} {n : Nat} {t : Nat → Int32} (hn : n ≤ 8) (hT : gm_T n s l x4 x5 t) (K : wY_push_40 post x1 x4 x5 (nI n) e s l m 1 (t n) (nI n)) : ∃ f : Nat, wY_push_40 post x1 x4 x5 (nI n) e s l m f (-1) 0 := by
  have h := gm_lY hn hT K n 0 (by omega)
  rw [hT.1, nI_0] at h
  exact ⟨n + 1, h⟩
/-- the pair is there: one node j holds it -/
theorem gm_some {n j : Nat} {s l m : Nat → Int32} {x4 x5 : Int32} (H : gm_Inv n s l m) (hj : j < n) (a : s j = x4) (b : l j = x5) : ∃ t : Nat → Int32, gm_T n s l x4 x5 t ∧ t n = nI j := by
  refine ⟨fun i => if j < i then nI j else -1, ⟨if_neg (Nat.not_lt_zero j), ?_, ?_⟩, if_pos hj⟩
  · intro i hi c d
    obtain rfl : i = j := H.2.2 i j hi hj (c.trans a.symm) (d.trans b.symm)
    exact ⟨if_neg (Nat.lt_irrefl i), if_pos (Nat.lt_succ_self i)⟩
  · intro i hi c
    have hne : i ≠ j := fun z => c (by rw [z]; exact ⟨a, b⟩)
    show (if j < i + 1 then nI j else -1) = (if j < i then nI j else -1)
    by_cases z : j < i
    · rw [if_pos z, if_pos (by omega)]
    · rw [if_neg z, if_neg (by omega)]
theorem gm_none {n : Nat} {s l : Nat → Int32} {x4 x5 : Int32} (h : ¬ ∃ j, j < n ∧ s j = x4 ∧ l j = x5) : gm_T n s l x4 x5 (fun _ => -1) :=
  ⟨rfl, fun i hi a b => absurd ⟨i, hi, a, b⟩ h, fun _ _ _ => rfl⟩
end
section
/-! ===== a push that passes the check of its parent: one outcome for both ===== -/
theorem gm_new {n : Nat} {s l m : Nat → Int32} {x4 x5 : Int32} (H : gm_Inv n s l m) (h8 : n < 8) (h : ¬ ∃ j, j < n ∧ s j = x4 ∧ l j = x5) : gm_Inv (n + 1) (upd s n x4) (upd l n x5) m := by
  refine ⟨by omega, fun j hj => H.2.1 j (by omega), ?_⟩
  intro i j hi hj a b
  rcases Nat.lt_or_ge i n with hi2 | hi2
  · rw [pk_un (by omega)] at a b
    rcases Nat.lt_or_ge j n with hj2 | hj2
    · rw [pk_un (by omega)] at a b
      exact H.2.2 i j hi2 hj2 a b
    · obtain rfl : j = n := by omega
      rw [pk_us] at a b
      exact absurd ⟨i, hi2, a, b⟩ h
  · obtain rfl : i = n := by omega
    rw [pk_us] at a b
    rcases Nat.lt_or_ge j i with hj2 | hj2
    · rw [pk_un (by omega)] at a b
      exact absurd ⟨j, hj2, a.symm, b.symm⟩ h
    · omega
theorem gm_upd0 {m : Nat → Int32} {n : Nat} (h : m n = 0) : upd m n 0 = m := by
  funext j
  by_cases z : j = n
  · rw [z, pk_us, h]
  · exact pk_un z
theorem gm_push {n : Nat} {e : Int32} {s l m : Nat → Int32} (H : gm_Inv n s l m) {x1 : Int32} (hx : ¬ x1 < 0 → ∃ p, p < 32 ∧ x1 = nI p) {x4 x5 : Int32} (b4 : vp_nar .byte x4 = x4) (b5 : vp_nar .byte x5 = x5) : ∃ (r : Int32) (n' : Nat) (e' : Int32) (s' l' m' : Nat → Int32), gm_Inv n' s' l' m' ∧ (∀ post : Int32 → SX → Prop, post r (nI n', e', s', l', m') → ∃ f : Nat, wX_push_30 post x1 x4 x5 (nI n) e s l m f (-1) 0) ∧ (∀ post : Int32 → SY → Prop, post r (nI n', e', s', l', m') → ∃ f : Nat, wY_push_40 post x1 x4 x5 (nI n) e s l m f (-1) 0) := by
  have hn := H.1
  have hnn : nI n ≤ nI n := nI_le (Nat.le_refl n) (by omega)
  by_cases w : ∃ j, j < n ∧ s j = x4 ∧ l j = x5
  · obtain ⟨j, hj, a, b⟩ := w
    obtain ⟨t, hT, ht⟩ := gm_some H hj a b
    obtain ⟨e', m', H', jX, jY⟩ := gm_join hx hj (nI n) e H
    have h0 : (0 : Int32) ≤ nI j := nI_pos' (by omega)
    refine ⟨nI j, n, e', s, l, m', H', fun post h => gm_eX hn hT ?_, fun post h => gm_eY hn hT ?_⟩
    · rw [ht]
      exact br_t hnn (br_t h0 (jX post h))
    · rw [ht]
      exact br_t hnn (br_t h0 (jY post h))
  · have hT := gm_none w
    have h0 : ¬ (0 : Int32) ≤ -1 := by decide
    by_cases h8 : n < 8
    · have hlt : nI n < 8 := nI_lt (b := 8) h8 (by decide)
      have hne : ¬ nI n = 8 := fun z => Nat.ne_of_lt h8 ((nI_eq (b := 8) (by omega) (by decide)).mp z)
      have hin : vp_in (nI n) 8 := vp_in_nI h8 (by omega)
      have hc : (nI n).toNatClampNeg = n := nI_clamp (by omega)
      obtain ⟨e', m', H', jX, jY⟩ := gm_join hx (Nat.lt_succ_self n) (nI (n + 1)) e (gm_new H h8 w)
      refine ⟨nI n, n + 1, e', upd s n x4, upd l n x5, m', H', fun post h => gm_eX hn hT ?_, fun post h => gm_eY hn hT ?_⟩
      · refine br_t hnn (br_f h0 (br_t hlt ⟨hin, nm_r (e' := upd s n x4) (by rw [hc, b4]) ⟨hin, nm_r (e' := upd l n x5) (by rw [hc, b5]) ⟨hin, nm_r (e' := m) (by rw [hc]; exact gm_upd0 (H.2.1 n (Nat.le_refl n))) (nm_r (nI_1 n) ?_)⟩⟩⟩))
        exact jX post h
      · refine br_t hnn (br_f h0 (br_f hne (nm_r (nI_1 n) ⟨hin, nm_r (e' := upd s n x4) (by rw [hc]) ⟨hin, nm_r (e' := upd l n x5) (by rw [hc]) ?_⟩⟩)))
        exact jY post h
    · obtain rfl : n = 8 := by omega
      have hlt : ¬ nI 8 < 8 := nI_nlt (b := 8) (Nat.le_refl 8) (by decide)
      refine ⟨-1, 8, e, s, l, m, H, fun post h => gm_eX hn hT ?_, fun post h => gm_eY hn hT ?_⟩
      · exact br_t hnn (br_f h0 (br_f hlt h))
      · exact br_t hnn (br_f h0 (br_t rfl h))
/-! ===== the methods ===== -/
theorem gm_par {v1 : Int32} {n : Nat} (hn : n ≤ 8) (h2 : v1 < nI n) : ¬ v1 < 0 → ∃ p, p < 32 ∧ v1 = nI p := by
  intro h
  obtain ⟨p, hp, rfl⟩ := nI_of h
  rw [nI_ltI hp (by omega)] at h2
  exact ⟨p, by omega, rfl⟩
theorem i_vc_push {k : Nat} {u : SX} {v : SY} (I : i_Rel k u v) (hk : k + 4 ≤ 2048) (v1 : Int32) (v2 : Int32) (v3 : Int32) : wpX_push (fun r u' => wpY_push (fun r' v' => r' = r ∧ i_Rel (k + 4) u' v') v v1 v2 v3) u v1 v2 v3 := by
  obtain ⟨n, e, s, l, m, rfl, rfl, H⟩ := I
  unfold wpX_push wpY_push
  dsimp only
  by_cases h1 : v1 < -1
  · exact br_t h1 (br_t h1 ⟨rfl, n, e, s, l, m, rfl, rfl, H⟩)
  · by_cases h2 : v1 < nI n
    · obtain ⟨r, n', e', s', l', m', H', pX, pY⟩ := gm_push (e := e) H (gm_par H.1 h2) (pk_vb v2) (pk_vb v3)
      refine br_f h1 (br_t h2 (pX _ ?_))
      refine br_f h1 (br_t h2 (nm_r (gm_b8 v2) (nm_r (gm_b8 v3) (pY _ ?_))))
      exact ⟨rfl, n', e', s', l', m', rfl, rfl, H'⟩
    · exact br_f h1 (br_f h2 (br_f h1 (br_f h2 ⟨rfl, n, e, s, l, m, rfl, rfl, H⟩)))
theorem i_vc_parents {k : Nat} {u : SX} {v : SY} (I : i_Rel k u v) (hk : k + 4 ≤ 2048) (v1 : Int32) : wpX_parents (fun r => wpY_parents (fun r' => r' = r ∧ i_Rel (k + 4) u v) v v1) u v1 := by
  have I' : i_Rel (k + 4) u v := I
  obtain ⟨n, e, s, l, m, rfl, rfl, H⟩ := I
  unfold wpX_parents wpY_parents
  dsimp only
  by_cases h1 : v1 < 0
  · exact br_t h1 (br_t h1 ⟨rfl, I'⟩)
  · by_cases h2 : v1 < nI n
    · have hin : vp_in v1 8 := by
        obtain ⟨p, hp, rfl⟩ := nI_of h1
        rw [nI_ltI hp (by have := H.1; omega)] at h2
        exact vp_in_nI (Nat.lt_of_lt_of_le h2 H.1) (by omega)
      exact br_f h1 (br_t h2 ⟨hin, br_f h1 (br_t h2 ⟨hin, rfl, I'⟩)⟩)
    · exact br_f h1 (br_f h2 (br_f h1 (br_f h2 ⟨rfl, I'⟩)))
theorem i_vc_edges {k : Nat} {u : SX} {v : SY} (I : i_Rel k u v) (hk : k + 4 ≤ 2048) : wpX_edges (fun r => wpY_edges (fun r' => r' = r ∧ i_Rel (k + 4) u v) v) u := by
  have I' : i_Rel (k + 4) u v := I
  obtain ⟨n, e, s, l, m, rfl, rfl, H⟩ := I
  exact ⟨rfl, I'⟩
theorem i_vc_size {k : Nat} {u : SX} {v : SY} (I : i_Rel k u v) (hk : k + 4 ≤ 2048) : wpX_size (fun r => wpY_size (fun r' => r' = r ∧ i_Rel (k + 4) u v) v) u := by
  have I' : i_Rel (k + 4) u v := I
  obtain ⟨n, e, s, l, m, rfl, rfl, H⟩ := I
  exact ⟨rfl, I'⟩
end
