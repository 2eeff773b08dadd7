section
/-! the pure picture: which simplices are held, and what the methods answer over it -/
def cd_E : List Nat := [3, 5, 9, 17, 6, 10, 18, 12, 20, 24]
def cd_sub (s e : Nat) : Bool := (s &&& (31 ^^^ e)) == 0
def cd_pt (s : Nat) : Nat := s % 2 + s / 2 % 2 + s / 4 % 2 + s / 8 % 2 + s / 16 % 2
def cd_H (h : Nat → Bool) (a : Nat → Int32) : Prop := ∀ s, 1 ≤ s → s < 32 → (a s = 0 ↔ h s = false)
/-- how many of the d simplices from i on are held and have q points -/
def cd_cn (h : Nat → Bool) (q : Nat) : Nat → Nat → Nat
  | 0, _ => 0
  | d + 1, i => (if h i && cd_pt i == q then 1 else 0) + cd_cn h q d (i + 1)
def cd_pl (h : Nat → Bool) (s : Nat) : Nat := cd_cn h (cd_pt s) (s - 1) 1
/-- the r-th of them, 0 if there is none -/
def cd_sa (h : Nat → Bool) (q : Nat) : Nat → Nat → Nat → Nat
  | 0, _, _ => 0
  | d + 1, i, r => if h i && cd_pt i == q then (if r = 0 then i else cd_sa h q d (i + 1) (r - 1)) else cd_sa h q d (i + 1) r
def cd_sx (h : Nat → Bool) (k i : Nat) : Nat := cd_sa h (k + 1) 31 1 i
def cd_fa (h : Nat → Bool) (s : Nat) : Nat → Nat → Nat
  | 0, _ => 0
  | d + 1, x => (if s.testBit x then 2 ^ cd_pl h (s &&& (31 ^^^ 2 ^ x)) else 0) ^^^ cd_fa h s d (x + 1)
def cd_bn (h : Nat → Bool) (k c : Nat) : Nat → Nat → Nat
  | 0, _ => 0
  | d + 1, i => (if c.testBit i then cd_fa h (cd_sx h k i) 5 0 else 0) ^^^ cd_bn h k c d (i + 1)
/-- the bit b of l, as the code asks for it -/
abbrev cd_ib (l : Int32) (b : Nat) : Int32 := (l.toUInt32 >>> ((nI b).toUInt32 &&& Int32.toUInt32 31)).toInt32 &&& 1
def cd_rd (R : Nat → Int32) : Nat → Int32 → Int32
  | 0, l => l
  | b + 1, l => cd_rd R b (if cd_ib l b = 0 then l else l ^^^ R b)
def cd_hi (l : Int32) : Nat → Nat → Nat → Nat
  | 0, _, t => t
  | d + 1, i, t => cd_hi l d (i + 1) (if cd_ib l i = 0 then t else i)
def cd_el (F : Nat → Int32) : Nat → Nat → Nat → (Nat → Int32) → Nat × (Nat → Int32)
  | 0, _, rk, R => (rk, R)
  | d + 1, i, rk, R => if cd_rd R 10 (F i) = 0 then cd_el F d (i + 1) rk R
      else cd_el F d (i + 1) (rk + 1) (upd R (cd_hi (cd_rd R 10 (F i)) 10 0 0) (cd_rd R 10 (F i)))
def cd_ad (h : Nat → Bool) (e : Nat) : Nat → Nat → Nat
  | 0, _ => 0
  | d + 1, i => (if cd_sub i e && !h i then 1 else 0) + cd_ad h e d (i + 1)
def cd_pp (x : Int32) : Nat → Nat → Int32 → Int32
  | 0, _, n => n
  | d + 1, i, n => cd_pp x d (i + 1) (n + cd_ib x i)
/-! the two masks -/
def cd_z (e f : Nat) : Nat := if e &&& f = 0 then 0 else if e = f then 2 else 1
def cd_h (e f s : Nat) : Bool := (false || cd_sub s e) || cd_sub s f
def cd_F (e f i : Nat) : Int32 := nI (cd_bn (cd_h e f) 1 (2 ^ i) 10 0)
def cd_c1 (z : Nat) : Nat := if z = 2 then 1 else 2
def cd_c0 (z : Nat) : Nat := if z = 0 then 4 else if z = 1 then 3 else 2
def cd_en (z : Nat) : Nat := if z = 0 then 4 else 2
def cd_b4 (v : Nat) : Nat := v % 2 + v / 2 % 2 + v / 4 % 2 + v / 8 % 2
def cd_all (e f z : Nat) : Nat := cd_bn (cd_h e f) 1 (2 ^ cd_c1 z - 1) 10 0
def cd_k1 (e f z : Nat) : Bool := cd_ad (fun s => false || cd_sub s e) f 31 1 == (if z = 0 then 3 else if z = 1 then 2 else 0)
def cd_k2 (e f z : Nat) : Bool := cd_cn (cd_h e f) 1 31 1 == cd_c0 z && cd_cn (cd_h e f) 2 31 1 == cd_c1 z && cd_cn (cd_h e f) 3 31 1 == 0 && cd_cn (cd_h e f) 4 31 1 == 0 && cd_cn (cd_h e f) 5 31 1 == 0
def cd_k3 (e f z : Nat) : Bool := cd_sx (cd_h e f) 1 0 != 0 && (z == 2 || cd_sx (cd_h e f) 1 1 != 0)
def cd_k4 (e f z : Nat) : Bool := (cd_el (cd_F e f) (cd_c1 z) 0 0 (fun _ => 0)).1 == cd_c1 z
def cd_k5 (e f z : Nat) : Bool := Nat.ble (cd_all e f z + 1) (2 ^ cd_c0 z) && cd_b4 (cd_all e f z) == cd_en z
def cd_k6 (e f z : Nat) : Bool := decide (cd_rd (cd_el (cd_F e f) (cd_c1 z) 0 0 (fun _ => 0)).2 10 (nI (cd_all e f z)) = 0)
def cd_ok (e f : Nat) : Bool := cd_k1 e f (cd_z e f) && cd_k2 e f (cd_z e f) && cd_k3 e f (cd_z e f) && cd_k4 e f (cd_z e f) && cd_k5 e f (cd_z e f) && cd_k6 e f (cd_z e f)
set_option maxRecDepth 100000 in
theorem cd_oks : ∀ e, e ∈ cd_E → ∀ f, f ∈ cd_E → cd_ok e f = true := by decide +kernel
theorem cd_one : ∀ e, e ∈ cd_E → 1 ≤ e ∧ e ≤ 31 ∧ cd_ad (fun _ => false) e 31 1 = 3 := by decide +kernel
/-! arithmetic -/
theorem cd_ptle (s : Nat) : cd_pt s ≤ 5 := by unfold cd_pt; omega
theorem cd_and (a b : Nat) : nI a &&& nI b = nI (a &&& b) := by
  apply Int32.toBitVec_inj.1
  show BitVec.ofNat 32 a &&& BitVec.ofNat 32 b = BitVec.ofNat 32 (a &&& b)
  apply BitVec.eq_of_getLsbD_eq
  intro i hi
  simp [hi]
theorem cd_xor (a b : Nat) : nI a ^^^ nI b = nI (a ^^^ b) := by
  apply Int32.toBitVec_inj.1
  show BitVec.ofNat 32 a ^^^ BitVec.ofNat 32 b = BitVec.ofNat 32 (a ^^^ b)
  apply BitVec.eq_of_getLsbD_eq
  intro i hi
  simp [hi]
theorem cd_su : ∀ n, n < 32 → (((nI n).toUInt32 &&& Int32.toUInt32 31).toBitVec % 32).toNat = n := by decide +kernel
theorem cd_bit (k j : Nat) (hj : j < 32) : cd_ib (nI k) j = 0 ↔ k.testBit j = false := by
  have e : ((((nI k).toUInt32 >>> ((nI j).toUInt32 &&& Int32.toUInt32 31)).toInt32)).toBitVec = (nI k).toBitVec >>> j := by
    show (nI k).toBitVec >>> (((nI j).toUInt32 &&& Int32.toUInt32 31).toBitVec % 32) = (nI k).toBitVec >>> j
    rw [BitVec.ushiftRight_eq', cd_su j hj]
  have g : (nI k).toBitVec.getLsbD j = k.testBit j := by
    show (BitVec.ofNat 32 k).getLsbD j = _
    rw [BitVec.getLsbD_ofNat, decide_eq_true hj, Bool.true_and]
  rw [← g, ← Int32.toBitVec_inj, Int32.toBitVec_and, e]
  show ((nI k).toBitVec >>> j &&& 1#32) = 0#32 ↔ _
  rw [BitVec.and_one_eq_setWidth_ofBool_getLsbD, BitVec.getLsbD_ushiftRight, Nat.add_zero]
  cases hb : (nI k).toBitVec.getLsbD j
  · exact ⟨fun _ => rfl, fun _ => by decide⟩
  · exact ⟨fun z => absurd z (by decide), fun z => absurd z (by decide)⟩
theorem cd_shl : ∀ p, p < 32 → (1 : Int32) <<< (nI p &&& 31) = nI (2 ^ p) := by decide +kernel
theorem cd_cl : ∀ s, s < 32 → ∀ x, x < 5 → nI s &&& (((1 : Int32) <<< (nI x &&& 31)) ^^^ (-1)) = nI (s &&& (31 ^^^ 2 ^ x)) ∧ s &&& (31 ^^^ 2 ^ x) < 32 := by decide +kernel
theorem cd_subI : ∀ s, s < 32 → ∀ e, e < 32 → (nI s &&& (nI e ^^^ (-1)) = 0 ↔ cd_sub s e = true) := by decide +kernel
theorem cd_ppe : ∀ s, s < 32 → cd_pp (nI s) 5 0 0 = nI (cd_pt s) := by decide +kernel
theorem cd_sh4 : ∀ v, v < 16 → (((nI v &&& 1) + ((nI v >>> ((1 : Int32) &&& 31)) &&& 1)) + ((nI v >>> ((2 : Int32) &&& 31)) &&& 1)) + ((nI v >>> ((3 : Int32) &&& 31)) &&& 1) = nI (cd_b4 v) := by decide +kernel
theorem cd_mk : ∀ a, a < 5 → ∀ r, r < 4 → ∃ e, e ∈ cd_E ∧ ((1 : Int32) <<< (nI a &&& 31)) ||| ((1 : Int32) <<< (nI ((a + 1 + r) % 5) &&& 31)) = nI e := by decide +kernel
theorem cd_mask {p q x y : Int32} (hx : x = (p &&& 255) - (p &&& 255) / 5 * 5) (hy : y = ((x + 1) + ((q &&& 255) - (q &&& 255) / 4 * 4)) - ((x + 1) + ((q &&& 255) - (q &&& 255) / 4 * 4)) / 5 * 5) :
    ∃ e, e ∈ cd_E ∧ ((1 : Int32) <<< (x &&& 31)) ||| ((1 : Int32) <<< (y &&& 31)) = nI e := by
  obtain ⟨j, hj, ej⟩ := pk_andE p (m := 255) 8 (by decide)
  obtain ⟨m, hm, em⟩ := pk_andE q (m := 255) 8 (by decide)
  have e5 : x = nI (j % 5) := by
    rw [hx, ej]
    exact pk_rem (d := 5) (by omega) (by omega) (by omega)
  have e4 : (q &&& 255) - (q &&& 255) / 4 * 4 = nI (m % 4) := by
    rw [em]
    exact pk_rem (d := 4) (by omega) (by omega) (by omega)
  have ey : y = nI ((j % 5 + 1 + m % 4) % 5) := by
    rw [hy, e4, e5, nI_1, nI_add]
    exact pk_rem (d := 5) (by omega) (by omega) (by omega)
  rw [e5, ey]
  exact cd_mk (j % 5) (by omega) (m % 4) (by omega)
/-! the steps of the pure loops -/
theorem cd_cn0 {h : Nat → Bool} {q d i : Nat} (hb : ¬ (h i = true ∧ cd_pt i = q)) : cd_cn h q (d + 1) i = cd_cn h q d (i + 1) := by
  show (if h i && cd_pt i == q then 1 else 0) + cd_cn h q d (i + 1) = _
  rw [if_neg (by simpa using hb), Nat.zero_add]
theorem cd_cn1 {h : Nat → Bool} {q d i : Nat} (hb : h i = true) (hp : cd_pt i = q) : cd_cn h q (d + 1) i = 1 + cd_cn h q d (i + 1) := by
  show (if h i && cd_pt i == q then 1 else 0) + cd_cn h q d (i + 1) = _
  rw [if_pos (by simp [hb, hp])]
theorem cd_cnle (h : Nat → Bool) (q : Nat) : ∀ d i, cd_cn h q d i ≤ d := by
  intro d
  induction d with
  | zero => intro i; exact Nat.le_refl 0
  | succ d ih =>
    intro i
    have := ih (i + 1)
    show (if h i && cd_pt i == q then 1 else 0) + cd_cn h q d (i + 1) ≤ d + 1
    split <;> omega
theorem cd_sa0 {h : Nat → Bool} {q d i r : Nat} (hb : ¬ (h i = true ∧ cd_pt i = q)) : cd_sa h q (d + 1) i r = cd_sa h q d (i + 1) r := by
  show (if h i && cd_pt i == q then (if r = 0 then i else cd_sa h q d (i + 1) (r - 1)) else cd_sa h q d (i + 1) r) = _
  rw [if_neg (by simpa using hb)]
theorem cd_sa1 {h : Nat → Bool} {q d i r : Nat} (hb : h i = true) (hp : cd_pt i = q) : cd_sa h q (d + 1) i r = if r = 0 then i else cd_sa h q d (i + 1) (r - 1) := by
  show (if h i && cd_pt i == q then (if r = 0 then i else cd_sa h q d (i + 1) (r - 1)) else cd_sa h q d (i + 1) r) = _
  rw [if_pos (by simp [hb, hp])]
theorem cd_salt (h : Nat → Bool) (q : Nat) : ∀ d i r, 1 ≤ i → cd_sa h q d i r < i + d := by
  intro d
  induction d with
  | zero => intro i r hi; show 0 < i + 0; omega
  | succ d ih =>
    intro i r hi
    have h1 := ih (i + 1) (r - 1) (by omega)
    have h2 := ih (i + 1) r (by omega)
    show (if h i && cd_pt i == q then (if r = 0 then i else cd_sa h q d (i + 1) (r - 1)) else cd_sa h q d (i + 1) r) < i + (d + 1)
    split
    · split <;> omega
    · omega
theorem cd_hilt (l : Int32) : ∀ d i t, i + d = 10 → t < 10 → cd_hi l d i t < 10 := by
  intro d
  induction d with
  | zero => intro i t hi ht; exact ht
  | succ d ih =>
    intro i t hi ht
    show cd_hi l d (i + 1) (if cd_ib l i = 0 then t else i) < 10
    refine ih (i + 1) _ (by omega) ?_
    split <;> omega
end
section
/-! one lemma a method: any state that matches the picture -/
theorem cd_pp_w {post : Int32 → Prop} {x : Int32} : ∀ (d i : Nat) (n : Int32), i + d = 5 → post (cd_pp x d i n) → wX_points_4 post x (d + 1) n (nI i) := by
  intro d
  induction d with
  | zero => intro i n hi H; exact pk_le 5 i (fun _ => H) (fun z => absurd z (by omega))
  | succ d ih => intro i n hi H; exact pk_le 5 i (fun z => absurd z (by omega)) (fun _ => nm_e (nm_r (nI_1 i) (ih (i + 1) _ (by omega) H)))
theorem cd_points {post : Int32 → Prop} {s : Nat} (hs : s < 32) (H : post (nI (cd_pt s))) : wpX_points post () (nI s) := by
  unfold wpX_points
  exact ⟨6, cd_pp_w 5 0 0 (by omega) (by rw [cd_ppe s hs]; exact H)⟩
theorem cd_cn_w {post : Int32 → Prop} {k : Nat} (hk : k < 5) {f0 f1 f2 : Int32} {a1 a2 a3 a4 : Nat → Int32} {h : Nat → Bool} (hh : cd_H h a1) :
    ∀ d i n, 1 ≤ i → i + d = 32 → post (nI (n + cd_cn h (k + 1) d i)) → wX_countOf_4 post (nI k) f0 f1 f2 a1 a2 a3 a4 (d + 1) (nI n) (nI i) := by
  intro d
  induction d with
  | zero => intro i n h1 hi H; exact pk_le 32 i (fun _ => H) (fun z => absurd z (by omega))
  | succ d ih =>
    intro i n h1 hi H
    have e := hh i h1 (by omega)
    refine pk_le 32 i (fun z => absurd z (by omega)) (fun _ => ⟨pk_in i 32 (by omega), ?_⟩)
    rw [nI_clamp (show i < 2 ^ 31 by omega)]
    cases hb : h i with
    | false =>
      rw [cd_cn0 (by rw [hb]; exact fun z => absurd z.1 (by decide))] at H
      exact br_t (e.mpr hb) (nm_r (Int32.add_zero _) (nm_r (nI_1 i) (ih (i + 1) n (by omega) (by omega) H)))
    | true =>
      have hp := cd_ptle i
      refine br_f (fun z => by rw [e.mp z] at hb; cases hb) (cd_points (by omega) ?_)
      refine pk_eq (cd_pt i) (k + 1) (fun z => ?_) (fun z => ?_) rfl (nI_1 k) (by omega) (by omega)
      · rw [cd_cn1 hb z, ← Nat.add_assoc] at H
        exact nm_r (nI_1 n) (nm_r (nI_1 i) (ih (i + 1) (n + 1) (by omega) (by omega) H))
      · rw [cd_cn0 (fun g => z g.2)] at H
        exact nm_r (Int32.add_zero _) (nm_r (nI_1 i) (ih (i + 1) n (by omega) (by omega) H))
theorem cd_count {post : Int32 → Prop} {k : Nat} (hk : k < 5) {f0 f1 f2 : Int32} {a1 a2 a3 a4 : Nat → Int32} {h : Nat → Bool} (hh : cd_H h a1)
    (H : post (nI (cd_cn h (k + 1) 31 1))) : wpX_countOf post (f0, f1, f2, a1, a2, a3, a4) (nI k) := by
  unfold wpX_countOf
  exact ⟨32, cd_cn_w hk hh 31 1 0 (by omega) (by omega) (by rw [Nat.zero_add]; exact H)⟩
theorem cd_pl_w {post : Int32 → Prop} {s q : Nat} (hs : s ≤ 32) (hq : q ≤ 5) {f0 f1 f2 : Int32} {a1 a2 a3 a4 : Nat → Int32} {h : Nat → Bool} (hh : cd_H h a1) :
    ∀ d i n, 1 ≤ i → i < 2 ^ 30 → s - i = d → post (nI (n + cd_cn h q d i)) → wX_placeOf_10 post (nI s) (nI q) f0 f1 f2 a1 a2 a3 a4 (d + 1) (nI n) (nI i) := by
  intro d
  induction d with
  | zero => intro i n h1 h2 hi H; exact pk_le s i (fun _ => H) (fun z => absurd z (by omega))
  | succ d ih =>
    intro i n h1 h2 hi H
    have e := hh i h1 (by omega)
    refine pk_le s i (fun z => absurd z (by omega)) (fun _ => ⟨pk_in i 32 (by omega), ?_⟩)
    rw [nI_clamp (show i < 2 ^ 31 by omega)]
    cases hb : h i with
    | false =>
      rw [cd_cn0 (by rw [hb]; exact fun z => absurd z.1 (by decide))] at H
      exact br_t (e.mpr hb) (nm_r (Int32.add_zero _) (nm_r (nI_1 i) (ih (i + 1) n (by omega) (by omega) (by omega) H)))
    | true =>
      have hp := cd_ptle i
      refine br_f (fun z => by rw [e.mp z] at hb; cases hb) (cd_points (by omega) ?_)
      refine pk_eq (cd_pt i) q (fun z => ?_) (fun z => ?_) rfl rfl (by omega) (by omega)
      · rw [cd_cn1 hb z, ← Nat.add_assoc] at H
        exact nm_r (nI_1 n) (nm_r (nI_1 i) (ih (i + 1) (n + 1) (by omega) (by omega) (by omega) H))
      · rw [cd_cn0 (fun g => z g.2)] at H
        exact nm_r (Int32.add_zero _) (nm_r (nI_1 i) (ih (i + 1) n (by omega) (by omega) (by omega) H))
theorem cd_place {post : Int32 → Prop} {s : Nat} (hs : s < 32) {f0 f1 f2 : Int32} {a1 a2 a3 a4 : Nat → Int32} {h : Nat → Bool} (hh : cd_H h a1)
    (H : post (nI (cd_pl h s))) : wpX_placeOf post (f0, f1, f2, a1, a2, a3, a4) (nI s) := by
  unfold wpX_placeOf
  exact cd_points hs ⟨s - 1 + 1, cd_pl_w (by omega) (cd_ptle s) hh (s - 1) 1 0 (by omega) (by omega) rfl (by rw [Nat.zero_add]; exact H)⟩
theorem cd_sa_w {post : Int32 → Prop} {k : Nat} (hk : k < 5) {f0 f1 f2 : Int32} {a1 a2 a3 a4 : Nat → Int32} {h : Nat → Bool} (hh : cd_H h a1) :
    ∀ d i r, 1 ≤ i → i + d = 32 → r < 2 ^ 31 → cd_sa h (k + 1) d i r ≠ 0 → post (nI (cd_sa h (k + 1) d i r)) → wX_simplexAt_5 post (nI k) f0 f1 f2 a1 a2 a3 a4 (d + 1) (nI r) (nI i) := by
  intro d
  induction d with
  | zero => intro i r h1 hi hr hn H; exact absurd rfl hn
  | succ d ih =>
    intro i r h1 hi hr hn H
    have e := hh i h1 (by omega)
    refine pk_le 32 i (fun z => absurd z (by omega)) (fun _ => ⟨pk_in i 32 (by omega), ?_⟩)
    rw [nI_clamp (show i < 2 ^ 31 by omega)]
    cases hb : h i with
    | false =>
      have g : cd_sa h (k + 1) (d + 1) i r = cd_sa h (k + 1) d (i + 1) r := cd_sa0 (by rw [hb]; exact fun z => absurd z.1 (by decide))
      rw [g] at H hn
      exact br_t (e.mpr hb) (nm_r (nI_1 i) (ih (i + 1) r (by omega) (by omega) hr hn H))
    | true =>
      have hp := cd_ptle i
      refine br_f (fun z => by rw [e.mp z] at hb; cases hb) (cd_points (by omega) ?_)
      refine pk_eq (cd_pt i) (k + 1) (fun z => ?_) (fun z => ?_) rfl (nI_1 k) (by omega) (by omega)
      · have g := cd_sa1 (d := d) (r := r) hb z
        rw [g] at H hn
        refine pk_eq r 0 (fun y => ?_) (fun y => ?_)
        · rw [if_pos y] at H
          exact H
        · rw [if_neg y] at H hn
          exact nm_r (sb_m1 (by omega)) (nm_r (nI_1 i) (ih (i + 1) (r - 1) (by omega) (by omega) (by omega) hn H))
      · have g : cd_sa h (k + 1) (d + 1) i r = cd_sa h (k + 1) d (i + 1) r := cd_sa0 (fun g => z g.2)
        rw [g] at H hn
        exact nm_r (nI_1 i) (ih (i + 1) r (by omega) (by omega) hr hn H)
theorem cd_simp {post : Int32 → Prop} {k i : Nat} (hk : k < 5) (hi : i < 2 ^ 31) {f0 f1 f2 : Int32} {a1 a2 a3 a4 : Nat → Int32} {h : Nat → Bool} (hh : cd_H h a1)
    (hn : cd_sx h k i ≠ 0) (H : post (nI (cd_sx h k i))) : wpX_simplexAt post (f0, f1, f2, a1, a2, a3, a4) (nI k) (nI i) := by
  unfold wpX_simplexAt
  exact ⟨32, cd_sa_w hk hh 31 1 i (by omega) (by omega) hi hn H⟩
theorem cd_fa_w {post : Int32 → Prop} {s : Nat} (hs : s < 32) {f0 f1 f2 : Int32} {a1 a2 a3 a4 : Nat → Int32} {h : Nat → Bool} (hh : cd_H h a1) :
    ∀ d x n, x + d = 5 → post (nI (n ^^^ cd_fa h s d x)) → wX_facesOf_4 post (nI s) f0 f1 f2 a1 a2 a3 a4 (d + 1) (nI n) (nI x) := by
  intro d
  induction d with
  | zero =>
    intro x n hx H
    have H' : post (nI (n ^^^ 0)) := H
    rw [Nat.xor_zero] at H'
    exact pk_le 5 x (fun _ => H') (fun z => absurd z (by omega))
  | succ d ih =>
    intro x n hx H
    have H' : post (nI (n ^^^ ((if s.testBit x then 2 ^ cd_pl h (s &&& (31 ^^^ 2 ^ x)) else 0) ^^^ cd_fa h s d (x + 1)))) := H
    refine pk_le 5 x (fun z => absurd z (by omega)) (fun _ => ?_)
    cases hb : s.testBit x with
    | false =>
      rw [hb, if_neg (by decide), Nat.zero_xor] at H'
      exact br_t ((cd_bit s x (by omega)).mpr hb) (nm_r (nI_1 x) (ih (x + 1) n (by omega) H'))
    | true =>
      rw [hb, if_pos rfl, ← Nat.xor_assoc] at H'
      obtain ⟨e1, e2⟩ := cd_cl s hs x (by omega)
      have hp : cd_pl h (s &&& (31 ^^^ 2 ^ x)) < 32 := by
        have := cd_cnle h (cd_pt (s &&& (31 ^^^ 2 ^ x))) ((s &&& (31 ^^^ 2 ^ x)) - 1) 1
        unfold cd_pl
        omega
      refine br_f (fun z => by rw [(cd_bit s x (by omega)).mp z] at hb; cases hb) ?_
      rw [e1]
      exact cd_place e2 hh (nm_r (by rw [cd_shl _ hp, cd_xor]) (nm_r (nI_1 x) (ih (x + 1) _ (by omega) H')))
theorem cd_faces {post : Int32 → Prop} {s : Nat} (hs : s < 32) {f0 f1 f2 : Int32} {a1 a2 a3 a4 : Nat → Int32} {h : Nat → Bool} (hh : cd_H h a1)
    (H : post (nI (cd_fa h s 5 0))) : wpX_facesOf post (f0, f1, f2, a1, a2, a3, a4) (nI s) := by
  unfold wpX_facesOf
  exact ⟨6, cd_fa_w hs hh 5 0 0 (by omega) (by rw [Nat.zero_xor]; exact H)⟩
theorem cd_bn_w {post : Int32 → Prop} {k c : Nat} (hk0 : 0 < k) (hk : k < 5) {f0 f1 f2 : Int32} {a1 a2 a3 a4 : Nat → Int32} {h : Nat → Bool} (hh : cd_H h a1)
    (ok : ∀ i, i < 10 → c.testBit i = true → cd_sx h k i ≠ 0) :
    ∀ d i n, i + d = 10 → post (nI (n ^^^ cd_bn h k c d i)) → wX_boundaryOf_5 post (nI k) (nI c) f0 f1 f2 a1 a2 a3 a4 (d + 1) (nI n) (nI i) := by
  intro d
  induction d with
  | zero =>
    intro i n hi H
    have H' : post (nI (n ^^^ 0)) := H
    rw [Nat.xor_zero] at H'
    exact pk_le 10 i (fun _ => H') (fun z => absurd z (by omega))
  | succ d ih =>
    intro i n hi H
    have H' : post (nI (n ^^^ ((if c.testBit i then cd_fa h (cd_sx h k i) 5 0 else 0) ^^^ cd_bn h k c d (i + 1)))) := H
    refine pk_le 10 i (fun z => absurd z (by omega)) (fun _ => pk_le k 0 (fun z => absurd z (by omega)) (fun _ => ?_))
    cases hb : c.testBit i with
    | false =>
      rw [hb, if_neg (by decide), Nat.zero_xor] at H'
      exact br_t ((cd_bit c i (by omega)).mpr hb) (nm_r (nI_1 i) (ih (i + 1) n (by omega) H'))
    | true =>
      rw [hb, if_pos rfl, ← Nat.xor_assoc] at H'
      have hn := ok i (by omega) hb
      have hl : cd_sx h k i < 32 := cd_salt h (k + 1) 31 1 i (by omega)
      refine br_f (fun z => by rw [(cd_bit c i (by omega)).mp z] at hb; cases hb) ?_
      exact cd_simp hk (by omega) hh hn (cd_faces hl hh (nm_r (cd_xor _ _) (nm_r (nI_1 i) (ih (i + 1) _ (by omega) H'))))
theorem cd_bound {post : Int32 → Prop} {k c : Nat} (hk0 : 0 < k) (hk : k < 5) {f0 f1 f2 : Int32} {a1 a2 a3 a4 : Nat → Int32} {h : Nat → Bool} (hh : cd_H h a1)
    (ok : ∀ i, i < 10 → c.testBit i = true → cd_sx h k i ≠ 0) (H : post (nI (cd_bn h k c 10 0))) : wpX_boundaryOf post (f0, f1, f2, a1, a2, a3, a4) (nI k) (nI c) := by
  unfold wpX_boundaryOf
  exact ⟨11, cd_bn_w hk0 hk hh ok 10 0 0 (by omega) (by rw [Nat.zero_xor]; exact H)⟩
theorem cd_b0_w {post : Int32 → Prop} {c : Int32} {f0 f1 f2 : Int32} {a1 a2 a3 a4 : Nat → Int32} (H : post 0) :
    ∀ d i, i + d = 10 → wX_boundaryOf_5 post (nI 0) c f0 f1 f2 a1 a2 a3 a4 (d + 1) 0 (nI i) := by
  intro d
  induction d with
  | zero => intro i hi; exact pk_le 10 i (fun _ => H) (fun z => absurd z (by omega))
  | succ d ih => intro i hi; exact pk_le 10 i (fun z => absurd z (by omega)) (fun _ => pk_le 0 0 (fun _ => nm_r (nI_1 i) (ih (i + 1) (by omega))) (fun z => absurd z (by omega)))
theorem cd_bound0 {post : Int32 → Prop} {c : Int32} {f0 f1 f2 : Int32} {a1 a2 a3 a4 : Nat → Int32} (H : post 0) : wpX_boundaryOf post (f0, f1, f2, a1, a2, a3, a4) (nI 0) c := by
  unfold wpX_boundaryOf
  exact ⟨11, cd_b0_w H 10 0 (by omega)⟩
theorem cd_rd_w {post : St2 → Prop} {f0 : Int32} {a1 a2 a3 a4 R : Nat → Int32} (hR : ∀ b, b < 10 → a2 b = R b) :
    ∀ b l t, b ≤ 10 → (∀ t', post (f0, cd_rd R b l, t', a1, a2, a3, a4)) → wX_reduce_13 post f0 a1 a2 a3 a4 (b + 1) (nI b + (-1)) l t := by
  intro b
  induction b with
  | zero => intro l t hb H; exact br_t (by decide) (H t)
  | succ b ih =>
    intro l t hb H
    have H' : ∀ t', post (f0, cd_rd R b (if cd_ib l b = 0 then l else l ^^^ R b), t', a1, a2, a3, a4) := H
    have e := hR b (by omega)
    rw [pk_m1 b]
    refine pk_lt b 0 (fun z => absurd z (by omega)) (fun _ => ⟨pk_in b 10 (by omega), ?_⟩)
    rw [nI_clamp (show b < 2 ^ 31 by omega)]
    refine br_c (fun hz => nm_e (ih l t (by omega) ?_)) (fun hz => br_c (fun g => nm_e (ih l t (by omega) ?_)) (fun g => ⟨pk_in b 10 (by omega), nm_e ⟨pk_in b 10 (by omega), nm_e (nm_e (ih _ _ (by omega) ?_))⟩⟩))
    · rw [← e, hz, Int32.xor_zero, ite_self] at H'
      exact H'
    · rw [if_pos g] at H'
      exact H'
    · rw [if_neg g, ← e] at H'
      exact H'
theorem cd_reduce {post : St2 → Prop} {f0 f1 f2 : Int32} {a1 a2 a3 a4 R : Nat → Int32} (hR : ∀ b, b < 10 → a2 b = R b) {p : Int32}
    (H : ∀ t', post (f0, cd_rd R 10 p, t', a1, a2, a3, a4)) : wpX_reduce post (f0, f1, f2, a1, a2, a3, a4) p := by
  unfold wpX_reduce
  exact ⟨11, cd_rd_w hR 10 p 0 (by omega) H⟩
theorem cd_hi_w {post : Int32 → Prop} {l : Int32} : ∀ d i t, i + d = 10 → post (nI (cd_hi l d i t)) → wX_highest_4 post l (d + 1) (nI t) (nI i) := by
  intro d
  induction d with
  | zero => intro i t hi H; exact pk_le 10 i (fun _ => H) (fun z => absurd z (by omega))
  | succ d ih =>
    intro i t hi H
    have H' : post (nI (cd_hi l d (i + 1) (if cd_ib l i = 0 then t else i))) := H
    refine pk_le 10 i (fun z => absurd z (by omega)) (fun _ => br_c (fun g => nm_r (nI_1 i) (ih (i + 1) t (by omega) ?_)) (fun g => nm_r (nI_1 i) (ih (i + 1) i (by omega) ?_)))
    · rw [if_pos g] at H'
      exact H'
    · rw [if_neg g] at H'
      exact H'
theorem cd_high {post : Int32 → Prop} {l : Int32} (H : post (nI (cd_hi l 10 0 0))) : wpX_highest post () l := by
  unfold wpX_highest
  exact ⟨11, cd_hi_w 10 0 0 (by omega) H⟩
theorem cd_ac_w {post : St2 → Prop} {f0 f1 f2 : Int32} {a1 a2 a3 a4 : Nat → Int32} (H : ∀ a4', post (f0, f1, f2, a1, a2, a3, a4')) :
    ∀ b c, b ≤ 10 → wX_addCycle_5 post f0 f1 f2 a1 a2 a3 a4 (b + 1) c (nI b + (-1)) := by
  intro b
  induction b with
  | zero => intro c hb; exact br_t (by decide) (H _)
  | succ b ih =>
    intro c hb
    rw [pk_m1 b]
    exact pk_lt b 0 (fun z => absurd z (by omega)) (fun _ => br_c (fun _ => nm_e (ih c (by omega))) (fun _ => ⟨pk_in b 10 (by omega), br_c (fun _ => ⟨pk_in b 10 (by omega), nm_e (H _)⟩) (fun _ => ⟨pk_in b 10 (by omega), nm_e (nm_e (ih _ (by omega)))⟩)⟩))
theorem cd_cyc {post : St2 → Prop} {f0 f1 f2 c : Int32} {a1 a2 a3 a4 : Nat → Int32} (H : ∀ a4', post (f0, f1, f2, a1, a2, a3, a4')) : wpX_addCycle post (f0, f1, f2, a1, a2, a3, a4) c := by
  unfold wpX_addCycle
  exact ⟨11, cd_ac_w H 10 c (by omega)⟩
end
section
/-! elimination, add -/
theorem cd_el_w {post : St2 → Prop} {k : Int32} {n : Nat} (hn : n < 32) {a1 F : Nat → Int32}
    (hB : ∀ i, i < n → ∀ (P : Int32 → Prop) (f0 f1 f2 : Int32) (a2 a3 a4 : Nat → Int32), P (F i) → wpX_boundaryOf P (f0, f1, f2, a1, a2, a3, a4) k ((1 : Int32) <<< (nI i &&& 31))) :
    ∀ d i rk R l t a2 a3 a4, i + d = n → (∀ b, b < 10 → a2 b = R b) →
      (∀ l t a2' a3' a4', (∀ b, b < 10 → a2' b = (cd_el F d i rk R).2 b) → post (nI (cd_el F d i rk R).1, l, t, a1, a2', a3', a4')) →
      wX_eliminate_57 post k (nI n) (d + 1) (nI i) (nI rk) l t a1 a2 a3 a4 := by
  intro d
  induction d with
  | zero => intro i rk R l t a2 a3 a4 hi hR H; exact pk_le n i (fun _ => H l t a2 a3 a4 hR) (fun z => absurd z (by omega))
  | succ d ih =>
    intro i rk R l t a2 a3 a4 hi hR H
    have el : cd_el F (d + 1) i rk R = if cd_rd R 10 (F i) = 0 then cd_el F d (i + 1) rk R
      else cd_el F d (i + 1) (rk + 1) (upd R (cd_hi (cd_rd R 10 (F i)) 10 0 0) (cd_rd R 10 (F i))) := rfl
    rw [el] at H
    refine pk_le n i (fun z => absurd z (by omega)) (fun _ => hB i (by omega) _ _ _ _ _ _ _ (cd_reduce hR (fun t' => nm_e (br_c (fun g => ?_) (fun g => ?_)))))
    · rw [if_pos g] at H
      exact cd_cyc (fun a4' => nm_r (nI_1 i) (ih (i + 1) rk R _ _ a2 a3 a4' (by omega) hR H))
    · rw [if_neg g] at H
      have ht : cd_hi (cd_rd R 10 (F i)) 10 0 0 < 10 := cd_hilt _ 10 0 0 (by omega) (by omega)
      refine cd_high ⟨pk_in _ 10 ht, nm_e ⟨pk_in _ 10 ht, nm_e (nm_r (nI_1 rk) (nm_r (nI_1 i) (ih (i + 1) (rk + 1) _ _ _ _ _ a4 (by omega) ?_ H)))⟩⟩
      intro b hb
      rw [nI_clamp (Nat.lt_trans ht (by decide))]
      by_cases e : b = cd_hi (cd_rd R 10 (F i)) 10 0 0
      · rw [e, pk_us, pk_us]
      · rw [pk_un e, pk_un e]
        exact hR b hb
theorem cd_e7_w {post : St2 → Prop} {k : Nat} (hk : k < 5) {a1 : Nat → Int32} {l t : Int32}
    (H : ∀ a2 a3 a4, (∀ b, b < 10 → a2 b = 0) → wpX_countOf (fun r => ∃ fu, wX_eliminate_57 post (nI k) r fu 0 0 l t a1 a2 a3 a4) (0, l, t, a1, a2, a3, a4) (nI k)) :
    ∀ d i a2 a3 a4, i + d = 10 → (∀ b, b < i → a2 b = 0) → wX_eliminate_7 post (nI k) 0 l t (d + 1) (nI i) a1 a2 a3 a4 := by
  intro d
  induction d with
  | zero =>
    intro i a2 a3 a4 hi h0
    exact pk_le 10 i (fun _ => pk_le k 4 (fun _ => H a2 a3 a4 (fun b hb => h0 b (by omega))) (fun z => absurd z (by omega))) (fun z => absurd z (by omega))
  | succ d ih =>
    intro i a2 a3 a4 hi h0
    refine pk_le 10 i (fun z => absurd z (by omega)) (fun _ => ⟨pk_in i 10 (by omega), nm_e ⟨pk_in i 10 (by omega), nm_e ⟨pk_in i 10 (by omega), nm_e (nm_r (nI_1 i) (ih (i + 1) _ _ _ (by omega) ?_))⟩⟩⟩)
    intro b hb
    rw [nI_clamp (show i < 2 ^ 31 by omega)]
    by_cases e : b = i
    · rw [e, pk_us]
    · rw [pk_un e]
      exact h0 b (by omega)
/-- what an elimination leaves: the rank and the rows -/
def cd_El (a1 : Nat → Int32) (k rk : Nat) (R : Nat → Int32) : Prop := ∀ (P : St2 → Prop) (f0 f1 f2 : Int32) (a2 a3 a4 : Nat → Int32),
  (∀ l t a2' a3' a4', (∀ b, b < 10 → a2' b = R b) → P (nI rk, l, t, a1, a2', a3', a4')) → wpX_eliminate P (f0, f1, f2, a1, a2, a3, a4) (nI k)
def cd_Ct (a1 : Nat → Int32) (k c : Nat) : Prop := ∀ (P : Int32 → Prop) (f0 f1 f2 : Int32) (a2 a3 a4 : Nat → Int32), P (nI c) → wpX_countOf P (f0, f1, f2, a1, a2, a3, a4) (nI k)
def cd_Bd (a1 : Nat → Int32) (k c v : Nat) : Prop := ∀ (P : Int32 → Prop) (f0 f1 f2 : Int32) (a2 a3 a4 : Nat → Int32), P (nI v) → wpX_boundaryOf P (f0, f1, f2, a1, a2, a3, a4) (nI k) (nI c)
theorem cd_elim {a1 F : Nat → Int32} {k n : Nat} (hk : k < 5) (hn : n < 32) (hc : cd_Ct a1 k n)
    (hB : ∀ i, i < n → ∀ (P : Int32 → Prop) (f0 f1 f2 : Int32) (a2 a3 a4 : Nat → Int32), P (F i) → wpX_boundaryOf P (f0, f1, f2, a1, a2, a3, a4) (nI k) ((1 : Int32) <<< (nI i &&& 31))) :
    cd_El a1 k (cd_el F n 0 0 (fun _ => 0)).1 (cd_el F n 0 0 (fun _ => 0)).2 := by
  intro P f0 f1 f2 a2 a3 a4 H
  unfold wpX_eliminate
  exact ⟨11, cd_e7_w hk (fun b2 b3 b4 hz => hc _ _ _ _ _ _ _ ⟨n + 1, cd_el_w hn hB n 0 0 (fun _ => 0) f1 f2 b2 b3 b4 (by omega) hz H⟩) 10 0 a2 a3 a4 (by omega) (fun b hb => absurd hb (by omega))⟩
theorem cd_ad_w {post : Int32 → St2 → Prop} {e : Nat} (he : e < 32) {f0 f1 f2 : Int32} {a2 a3 a4 : Nat → Int32} {h : Nat → Bool} :
    ∀ d i n a1, 1 ≤ i → i + d = 32 → (∀ s, 1 ≤ s → s < i → (a1 s = 0 ↔ (h s || cd_sub s e) = false)) → (∀ s, i ≤ s → s < 32 → (a1 s = 0 ↔ h s = false)) →
      (∀ a1', cd_H (fun s => h s || cd_sub s e) a1' → post (nI (n + cd_ad h e d i)) (f0, f1, f2, a1', a2, a3, a4)) →
      wX_add_17 post (nI e) f0 f1 f2 (d + 1) (nI n) (nI i) a1 a2 a3 a4 := by
  intro d
  induction d with
  | zero =>
    intro i n a1 h1 hi hl hr H
    exact pk_le 32 i (fun _ => H a1 (fun s s1 s2 => hl s s1 (by omega))) (fun z => absurd z (by omega))
  | succ d ih =>
    intro i n a1 h1 hi hl hr H
    have H' : ∀ a1', cd_H (fun s => h s || cd_sub s e) a1' → post (nI (n + ((if cd_sub i e && !h i then 1 else 0) + cd_ad h e d (i + 1)))) (f0, f1, f2, a1', a2, a3, a4) := H
    have ei := hr i (Nat.le_refl i) (by omega)
    have hr' : ∀ s, i + 1 ≤ s → s < 32 → (a1 s = 0 ↔ h s = false) := fun s s1 s2 => hr s (by omega) s2
    have keep : (h i || cd_sub i e) = h i → ∀ s, 1 ≤ s → s < i + 1 → (a1 s = 0 ↔ (h s || cd_sub s e) = false) := by
      intro g s s1 s2
      by_cases q : s = i
      · rw [q, g]
        exact ei
      · exact hl s s1 (by omega)
    refine pk_le 32 i (fun z => absurd z (by omega)) (fun _ => ?_)
    rw [nI_clamp (show i < 2 ^ 31 by omega)]
    cases hs : cd_sub i e with
    | false =>
      rw [hs, Bool.false_and, if_neg (by decide), Nat.zero_add] at H'
      refine br_f (fun z => by rw [(cd_subI i (by omega) e he).mp z] at hs; cases hs) (nm_r (nI_1 i) (ih (i + 1) n a1 (by omega) (by omega) (keep (by rw [hs, Bool.or_false])) hr' H'))
    | true =>
      refine br_t ((cd_subI i (by omega) e he).mpr hs) ⟨pk_in i 32 (by omega), ?_⟩
      cases hb : h i with
      | true =>
        rw [hs, hb, Bool.true_and, Bool.not_true, if_neg (by decide), Nat.zero_add] at H'
        exact br_f (fun z => by rw [ei.mp z] at hb; cases hb) (nm_r (nI_1 i) (ih (i + 1) n a1 (by omega) (by omega) (keep (by rw [hb, Bool.true_or])) hr' H'))
      | false =>
        rw [hs, hb, Bool.true_and, Bool.not_false, if_pos rfl, ← Nat.add_assoc] at H'
        refine br_t (ei.mpr hb) ⟨pk_in i 32 (by omega), nm_e (nm_r (nI_1 n) (nm_r (nI_1 i) (ih (i + 1) (n + 1) _ (by omega) (by omega) ?_ ?_ H')))⟩
        · intro s s1 s2
          by_cases q : s = i
          · rw [q, pk_us, hs, Bool.or_true]
            exact ⟨fun z => absurd z (by decide), fun z => absurd z (by decide)⟩
          · rw [pk_un q]
            exact hl s s1 (by omega)
        · intro s s1 s2
          rw [pk_un (by omega)]
          exact hr' s s1 s2
theorem cd_add {post : Int32 → St2 → Prop} {e : Nat} (h1 : 1 ≤ e) (he : e ≤ 31) {f0 f1 f2 : Int32} {a1 a2 a3 a4 : Nat → Int32} {h : Nat → Bool} (hh : cd_H h a1)
    (H : ∀ a1', cd_H (fun s => h s || cd_sub s e) a1' → post (nI (cd_ad h e 31 1)) (f0, f1, f2, a1', a2, a3, a4)) : wpX_add post (f0, f1, f2, a1, a2, a3, a4) (nI e) := by
  unfold wpX_add
  exact pk_lt e 1 (fun z => absurd z (by omega)) (fun _ => pk_le e 31 (fun _ => ⟨32, cd_ad_w (by omega) 31 1 0 a1 (by omega) (by omega) (fun s s1 s2 => absurd s2 (by omega)) hh (by rw [Nat.zero_add]; exact H)⟩) (fun z => absurd z (by omega)))
end
section
/-! the law's own rows over the specs -/
theorem cd_dim {post : Int32 → Prop} {k : Nat} (hk : k < 5) (H : post 1) : wpX_isDimension post () (nI k) := by
  unfold wpX_isDimension
  exact pk_lt k 0 (fun z => absurd z (by omega)) (fun _ => pk_lt 4 k (fun z => absurd z (by omega)) (fun _ => H))
theorem cd_chain1 {post : Int32 → Prop} {f0 f1 f2 : Int32} {a1 a2 a3 a4 : Nat → Int32} {k n v : Nat} (hk : k < 5) (hc : cd_Ct a1 k n) (hn : n < 31) (hp : 2 ^ n < 2 ^ 31) (hv : v < 2 ^ n) (H : post 1) :
    wpX_isChain post (f0, f1, f2, a1, a2, a3, a4) (nI k) (nI v) := by
  unfold wpX_isChain
  exact cd_dim hk (br_f (by decide) (pk_lt v 0 (fun z => absurd z (by omega)) (fun _ => hc _ _ _ _ _ _ _ (pk_le (2 ^ n) v (fun z => absurd z (by omega)) (fun _ => H) (cd_shl n (by omega)) rfl hp (by omega)))))
theorem cd_chain0 {post : Int32 → Prop} {f0 f1 f2 : Int32} {a1 a2 a3 a4 : Nat → Int32} {k n v : Nat} (hk : k < 5) (hc : cd_Ct a1 k n) (hn : n < 31) (hv : v < 2 ^ 31) (hp : 2 ^ n ≤ v) (H : post 0) :
    wpX_isChain post (f0, f1, f2, a1, a2, a3, a4) (nI k) (nI v) := by
  unfold wpX_isChain
  exact cd_dim hk (br_f (by decide) (pk_lt v 0 (fun z => absurd z (by omega)) (fun _ => hc _ _ _ _ _ _ _ (pk_le (2 ^ n) v (fun _ => H) (fun z => absurd z (by omega)) (cd_shl n (by omega)) rfl (by omega) hv))))
theorem cd_bdry1 {post : Int32 → Prop} {f0 f1 f2 : Int32} {a1 a2 a3 a4 : Nat → Int32} {k n c v : Nat} (hk : k < 5) (hc : cd_Ct a1 k n) (hn : n < 31) (hp : 2 ^ n < 2 ^ 31) (hv : c < 2 ^ n) (hb : cd_Bd a1 k c v) (H : post (nI v)) :
    wpX_boundary post (f0, f1, f2, a1, a2, a3, a4) (nI k) (nI c) := by
  unfold wpX_boundary
  exact cd_chain1 hk hc hn hp hv (br_f (by decide) (hb _ _ _ _ _ _ _ H))
theorem cd_bdry0 {post : Int32 → Prop} {f0 f1 f2 : Int32} {a1 a2 a3 a4 : Nat → Int32} {k n c : Nat} (hk : k < 5) (hc : cd_Ct a1 k n) (hn : n < 31) (hv : c < 2 ^ 31) (hp : 2 ^ n ≤ c) (H : post (-1)) :
    wpX_boundary post (f0, f1, f2, a1, a2, a3, a4) (nI k) (nI c) := by
  unfold wpX_boundary
  exact cd_chain0 hk hc hn hv hp (br_t rfl H)
theorem cd_holes {post : Int32 → St2 → Prop} {f0 f1 f2 : Int32} {a1 a2 a3 a4 R1 R2 : Nat → Int32} {k c r1 r2 : Nat} (hk : k + 1 < 5) (hc : cd_Ct a1 k c) (h1 : cd_El a1 k r1 R1) (h2 : cd_El a1 (k + 1) r2 R2)
    (H : ∀ f l t b2 b3 b4, post (nI c - nI r1 - nI r2) (f, l, t, a1, b2, b3, b4)) : wpX_holes post (f0, f1, f2, a1, a2, a3, a4) (nI k) := by
  unfold wpX_holes
  refine cd_dim (by omega) (br_f (by decide) (hc _ _ _ _ _ _ _ (h1 _ _ _ _ _ _ _ (fun l t b2 b3 b4 _ => nm_e ?_))))
  rw [nI_1 k]
  exact h2 _ _ _ _ _ _ _ (fun l t b2 b3 b4 _ => H _ _ _ _ _ _)
theorem cd_filled {post : Int32 → St2 → Prop} {f0 f1 f2 : Int32} {a1 a2 a3 a4 R : Nat → Int32} {k n r v : Nat} (hk : k + 1 < 5) (hc : cd_Ct a1 k n) (hn : n < 31) (hp : 2 ^ n < 2 ^ 31) (hv : v < 2 ^ n)
    (h1 : cd_El a1 (k + 1) r R) (hR : cd_rd R 10 (nI v) = 0) (H : ∀ f l t b2 b3 b4, post 1 (f, l, t, a1, b2, b3, b4)) : wpX_filled post (f0, f1, f2, a1, a2, a3, a4) (nI k) (nI v) := by
  unfold wpX_filled
  refine cd_chain1 (by omega) hc hn hp hv (br_f (by decide) ?_)
  rw [nI_1 k]
  exact h1 _ _ _ _ _ _ _ (fun l t b2 b3 b4 hb => cd_reduce hb (fun t' => br_t hR (H _ _ _ _ _ _)))
theorem cd_alter {post : Int32 → Prop} {f0 f1 f2 : Int32} {a1 a2 a3 a4 : Nat → Int32} {c0 c1 c2 c3 c4 : Nat} (h0 : cd_Ct a1 0 c0) (h1 : cd_Ct a1 1 c1) (h2 : cd_Ct a1 2 c2) (h3 : cd_Ct a1 3 c3) (h4 : cd_Ct a1 4 c4)
    (H : post (0 + nI c0 + (-nI c1) + nI c2 + (-nI c3) + nI c4)) : wpX_alternating post (f0, f1, f2, a1, a2, a3, a4) := by
  unfold wpX_alternating
  refine ⟨6, ?_⟩
  refine br_f (by decide) (h0 _ _ _ _ _ _ _ (br_t (by decide) (nm_e (nm_r (e' := nI 1) (by decide) ?_))))
  refine br_f (by decide) (h1 _ _ _ _ _ _ _ (br_f (by decide) (nm_e (nm_r (e' := nI 2) (by decide) ?_))))
  refine br_f (by decide) (h2 _ _ _ _ _ _ _ (br_t (by decide) (nm_e (nm_r (e' := nI 3) (by decide) ?_))))
  refine br_f (by decide) (h3 _ _ _ _ _ _ _ (br_f (by decide) (nm_e (nm_r (e' := nI 4) (by decide) ?_))))
  refine br_f (by decide) (h4 _ _ _ _ _ _ _ (br_t (by decide) (nm_e (nm_r (e' := nI 5) (by decide) ?_))))
  exact br_t (by decide) H
/-- all that the law asks of the desk, once the two edges are in -/
def cd_Sp (a1 : Nat → Int32) (z v : Nat) (R : Nat → Int32) : Prop :=
  cd_Ct a1 0 (cd_c0 z) ∧ cd_Ct a1 1 (cd_c1 z) ∧ cd_Ct a1 2 0 ∧ cd_Ct a1 3 0 ∧ cd_Ct a1 4 0 ∧ (∃ R0, cd_El a1 0 0 R0) ∧ cd_El a1 1 (cd_c1 z) R ∧ (∃ R2, cd_El a1 2 0 R2) ∧
    cd_Bd a1 1 (2 ^ cd_c1 z - 1) v ∧ v < 2 ^ cd_c0 z ∧ cd_b4 v = cd_en z ∧ cd_rd R 10 (nI v) = 0
theorem cd_t0 : ∀ z, z < 3 → cd_c0 z < 31 ∧ 2 ^ cd_c0 z < 2 ^ 31 ∧ 2 ^ cd_c0 z ≤ 16 ∧ cd_c1 z < 31 ∧ 2 ^ cd_c1 z < 2 ^ 31 ∧ 2 ^ cd_c1 z - 1 < 2 ^ cd_c1 z ∧ cd_c0 z < 32 ∧ cd_c1 z < 32 := by decide +kernel
theorem cd_t1 : ∀ z, z < 3 → (nI z = 0 → 0 + nI (cd_c0 z) + (-nI (cd_c1 z)) + nI 0 + (-nI 0) + nI 0 = 2) ∧ (¬ nI z = 0 → 0 + nI (cd_c0 z) + (-nI (cd_c1 z)) + nI 0 + (-nI 0) + nI 0 = 1) := by decide +kernel
theorem cd_t2 : ∀ z, z < 3 → (nI z = 0 → nI (cd_en z) = 4) ∧ (¬ nI z = 0 → nI (cd_en z) = 2) := by decide +kernel
theorem cd_t3 : ∀ z, z < 3 → ((1 : Int32) <<< (nI (cd_c1 z) &&& 31)) = nI (2 ^ cd_c1 z) ∧ ((1 : Int32) <<< (nI (cd_c1 z) &&& 31)) - 1 = nI (2 ^ cd_c1 z - 1) := by decide +kernel
theorem cd_t4 : ∀ z, z < 3 → (nI z = 2 → (1 : Int32) = nI (cd_c1 z)) ∧ (¬ nI z = 2 → (2 : Int32) = nI (cd_c1 z)) ∧ nI (cd_c1 z) - nI (cd_c1 z) - nI 0 = 0 := by decide +kernel
theorem cd_t5 : ∀ z, z < 3 → (nI z = 0 → nI (cd_c0 z) - nI 0 - nI (cd_c1 z) = 2) ∧ (¬ nI z = 0 → nI (cd_c0 z) - nI 0 - nI (cd_c1 z) = 1) := by decide +kernel
theorem cd_t6 : ∀ z, z < 3 → (nI z = 0 → nI (if z = 0 then 3 else if z = 1 then 2 else 0) = 3) ∧ (¬ nI z = 0 → nI z = 1 → nI (if z = 0 then 3 else if z = 1 then 2 else 0) = 2) ∧ (¬ nI z = 0 → ¬ nI z = 1 → nI (if z = 0 then 3 else if z = 1 then 2 else 0) = 0) := by decide +kernel
theorem cd_t7 : ∀ z, z < 3 → (cd_el (fun _ => 0) (cd_c0 z) 0 0 (fun _ => 0)).1 = 0 := by decide +kernel
section
variable {Q : Int32 → St0 → Prop} {mc ms kc ks : Nat} {z v : Nat} {f0 f1 f2 : Int32} {a1 a2 a3 a4 R : Nat → Int32}
theorem cd_308 (hQ : Q 1 ()) {x y : Int32} (h : y = x) : wL_lawOf_308 Q mc ms x y kc ks := by
  unfold wL_lawOf_308
  exact br_t h hQ
theorem cd_278 (hQ : Q 1 ()) (hz : z < 3) (S : cd_Sp a1 z v R) {x y : Int32} (h : y = x) : wL_lawOf_278 Q mc ms (nI z) (nI v) x y kc ks f0 f1 f2 a1 a2 a3 a4 := by
  obtain ⟨s0, s1, s2, s3, s4, _, e1, _, _, hv, _, hr⟩ := S
  obtain ⟨t1, t2, t3, t4, t5, t6⟩ := cd_t0 z hz
  unfold wL_lawOf_278
  exact br_t h (cd_filled (k := 0) (by omega) s0 t1 t2 hv e1 hr (fun f l t b2 b3 b4 => br_t rfl (cd_alter s0 s1 s2 s3 s4 (br_c (fun g => cd_308 hQ ((cd_t1 z hz).1 g)) (fun g => cd_308 hQ ((cd_t1 z hz).2 g))))))
theorem cd_196 (hQ : Q 1 ()) (hz : z < 3) (S : cd_Sp a1 z v R) {x : Int32} (hx : x = nI (cd_c1 z)) : wL_lawOf_196 Q mc ms (nI z) x kc ks f0 f1 f2 a1 a2 a3 a4 := by
  obtain ⟨s0, s1, s2, s3, s4, e0, e1, e2, hb, hv, h4, hr⟩ := id S
  obtain ⟨t1, t2, t3, t4, t5, t6, _⟩ := cd_t0 z hz
  obtain ⟨u1, u2⟩ := cd_t3 z hz
  subst hx
  unfold wL_lawOf_196
  rw [u2, u1]
  unfold wpX_count
  refine cd_dim (k := 1) (by omega) (br_f (by decide) (s1 _ _ _ _ _ _ _ (br_t rfl ?_)))
  refine cd_bdry0 (k := 1) (by omega) s1 t4 t5 (Nat.le_refl _) (br_t rfl ?_)
  refine cd_bdry1 (k := 1) (by omega) s1 t4 t5 t6 hb ?_
  refine nm_r (by rw [cd_sh4 v (by omega), h4]) (br_c (fun g => cd_278 hQ hz S ((cd_t2 z hz).1 g)) (fun g => cd_278 hQ hz S ((cd_t2 z hz).2 g)))
theorem cd_171 (hQ : Q 1 ()) (hz : z < 3) (S : cd_Sp a1 z v R) {x y : Int32} (h : y = x) : wL_lawOf_171 Q mc ms (nI z) x y kc ks f0 f1 f2 a1 a2 a3 a4 := by
  obtain ⟨s0, s1, s2, s3, s4, e0, e1, ⟨R2, e2⟩, hb, hv, h4, hr⟩ := id S
  obtain ⟨u1, u2, u3⟩ := cd_t4 z hz
  unfold wL_lawOf_171
  exact br_t h (cd_holes (k := 1) (by omega) s1 e1 e2 (fun f l t b2 b3 b4 => br_t u3 (br_c (fun g => cd_196 hQ hz S (u1 g)) (fun g => cd_196 hQ hz S (u2 g)))))
theorem cd_150 (hQ : Q 1 ()) (hz : z < 3) (S : cd_Sp a1 z v R) {x y : Int32} (h : y = x) : wL_lawOf_150 Q mc ms (nI z) x y kc ks f0 f1 f2 a1 a2 a3 a4 := by
  obtain ⟨s0, s1, s2, s3, s4, ⟨R0, e0⟩, e1, e2, hb, hv, h4, hr⟩ := id S
  unfold wL_lawOf_150
  exact br_t h (cd_holes (k := 0) (by omega) s0 e0 e1 (fun f l t b2 b3 b4 => br_c (fun g => cd_171 hQ hz S ((cd_t5 z hz).1 g)) (fun g => cd_171 hQ hz S ((cd_t5 z hz).2 g))))
end
theorem cd_zlt (e f : Nat) : cd_z e f < 3 := by
  unfold cd_z
  split
  · omega
  · split <;> omega
theorem cd_spec {e f : Nat} (he : e ∈ cd_E) (hf : f ∈ cd_E) {a1 : Nat → Int32} (hh : cd_H (cd_h e f) a1) :
    cd_Sp a1 (cd_z e f) (cd_all e f (cd_z e f)) (cd_el (cd_F e f) (cd_c1 (cd_z e f)) 0 0 (fun _ => 0)).2 := by
  have ok := cd_oks e he f hf
  have hz := cd_zlt e f
  unfold cd_ok at ok
  unfold cd_all cd_Sp
  generalize hw : cd_z e f = z at ok hz ⊢
  simp only [Bool.and_eq_true] at ok
  obtain ⟨⟨⟨⟨⟨k1, k2⟩, k3⟩, k4⟩, k5⟩, k6⟩ := ok
  obtain ⟨t1, t2, t3, t4, t5, t6, t7, t8⟩ := cd_t0 z hz
  unfold cd_k2 at k2
  simp only [Bool.and_eq_true, beq_iff_eq] at k2
  obtain ⟨⟨⟨⟨c0, c1⟩, c2⟩, c3⟩, c4⟩ := k2
  unfold cd_k3 at k3
  simp only [Bool.and_eq_true, Bool.or_eq_true, beq_iff_eq, bne_iff_ne] at k3
  unfold cd_k4 at k4
  simp only [beq_iff_eq] at k4
  unfold cd_k5 cd_all at k5
  simp only [Bool.and_eq_true, beq_iff_eq] at k5
  unfold cd_k6 cd_all at k6
  have k6' := of_decide_eq_true k6
  have k5' := Nat.le_of_ble_eq_true k5.1
  have sx : ∀ j, j < cd_c1 z → cd_sx (cd_h e f) 1 j ≠ 0 := by
    intro j hj
    rcases Nat.lt_or_ge j 1 with g | g
    · have g0 : j = 0 := by omega
      rw [g0]
      exact k3.1
    · rcases k3.2 with y | y
      · have g1 : cd_c1 z = 1 := by rw [y]; rfl
        exact absurd hj (by omega)
      · have g2 : cd_c1 z ≤ 2 := by unfold cd_c1; split <;> omega
        have g0 : j = 1 := by omega
        rw [g0]
        exact y
  have s0 : cd_Ct a1 0 (cd_c0 z) := fun P g0 g1 g2 a2 a3 a4 H => cd_count (by omega) hh (by rw [c0]; exact H)
  have s1 : cd_Ct a1 1 (cd_c1 z) := fun P g0 g1 g2 a2 a3 a4 H => cd_count (by omega) hh (by rw [c1]; exact H)
  have s2 : cd_Ct a1 2 0 := fun P g0 g1 g2 a2 a3 a4 H => cd_count (by omega) hh (by rw [c2]; exact H)
  have s3 : cd_Ct a1 3 0 := fun P g0 g1 g2 a2 a3 a4 H => cd_count (by omega) hh (by rw [c3]; exact H)
  have s4 : cd_Ct a1 4 0 := fun P g0 g1 g2 a2 a3 a4 H => cd_count (by omega) hh (by rw [c4]; exact H)
  have e0 := cd_elim (F := fun _ => 0) (k := 0) (by omega) t7 s0 (fun i hi P g0 g1 g2 a2 a3 a4 H => cd_bound0 H)
  have e2 := cd_elim (F := fun _ => 0) (k := 2) (by omega) (by omega) s2 (fun i hi => absurd hi (by omega))
  have e1 := cd_elim (F := cd_F e f) (k := 1) (by omega) t8 s1 (fun i hi P g0 g1 g2 a2 a3 a4 H => by
    rw [cd_shl i (by omega)]
    refine cd_bound (by omega) (by omega) hh (fun j hj hb => ?_) H
    rw [Nat.testBit_two_pow] at hb
    rw [← of_decide_eq_true hb]
    exact sx i hi)
  rw [cd_t7 z hz] at e0
  rw [k4] at e1
  refine ⟨s0, s1, s2, s3, s4, ⟨_, e0⟩, e1, ⟨_, e2⟩, ?_, k5', k5.2, k6'⟩
  intro P g0 g1 g2 a2 a3 a4 H
  refine cd_bound (by omega) (by omega) hh (fun j hj hb => ?_) H
  rw [Nat.testBit_two_pow_sub_one] at hb
  exact sx j (of_decide_eq_true hb)
theorem cd_121 {Q : Int32 → St0 → Prop} {mc ms kc ks : Nat} {e f : Nat} {f0 f1 f2 x : Int32} {a1 a2 a3 a4 : Nat → Int32} (hQ : Q 1 ()) (he : e ∈ cd_E) (hf : f ∈ cd_E) (hh : cd_H (fun s => false || cd_sub s e) a1)
    (hx : x = nI (cd_z e f)) : wL_lawOf_121 Q mc ms (nI f) x kc ks f0 f1 f2 a1 a2 a3 a4 := by
  have ok := cd_oks e he f hf
  have hz := cd_zlt e f
  have fo := cd_one f hf
  unfold cd_ok at ok
  simp only [Bool.and_eq_true] at ok
  obtain ⟨⟨⟨⟨⟨k1, k2⟩, k3⟩, k4⟩, k5⟩, k6⟩ := ok
  unfold cd_k1 at k1
  simp only [beq_iff_eq] at k1
  subst hx
  unfold wL_lawOf_121
  refine cd_add fo.1 fo.2.1 hh (fun b1 hb => ?_)
  have S := cd_spec he hf (show cd_H (cd_h e f) b1 from hb)
  rw [k1]
  obtain ⟨u1, u2, u3⟩ := cd_t6 _ hz
  exact br_c (fun g => cd_150 hQ hz S (u1 g)) (fun g => br_c (fun g2 => cd_150 hQ hz S (u2 g g2)) (fun g2 => cd_150 hQ hz S (u3 g g2)))
theorem cd_zI : ∀ e, e ∈ cd_E → ∀ f, f ∈ cd_E → (((nI e &&& nI f) &&& 31) = 0 → (0 : Int32) = nI (cd_z e f)) ∧ (¬ ((nI e &&& nI f) &&& 31) = 0 → nI e = nI f → (2 : Int32) = nI (cd_z e f)) ∧ (¬ ((nI e &&& nI f) &&& 31) = 0 → ¬ nI e = nI f → (1 : Int32) = nI (cd_z e f)) := by decide +kernel
theorem cd_lawOf {Q : Int32 → St0 → Prop} (hQ : Q 1 ()) (p0 p1 p2 p3 : Int32) : wpL_lawOf Q 32 512 () p0 p1 p2 p3 := by
  unfold wpL_lawOf
  refine ⟨by omega, by omega, 31, 505, by omega, by omega, ?_⟩
  unfold wpX_init
  refine ⟨by omega, by omega, by omega, by omega, by omega, by omega, by omega, by omega, ?_⟩
  refine ⟨by decide, fun x5 h5 => ⟨by decide, by decide, fun x6 h6 => ⟨by decide, fun x7 h7 => ⟨by decide, by decide, fun x8 h8 x9 h9 x10 h10 => ?_⟩⟩⟩⟩
  obtain ⟨e, he, ee⟩ := cd_mask h5 h6
  obtain ⟨f, hf, ef⟩ := cd_mask h7 h8
  have e9 : x9 = nI e := h9.trans ee
  have e10 : x10 = nI f := h10.trans ef
  clear h9 h10
  subst e9 e10
  obtain ⟨o1, o2, o3⟩ := cd_one e he
  obtain ⟨u1, u2, u3⟩ := cd_zI e he f hf
  refine cd_add (h := fun _ => false) o1 o2 (fun s _ _ => ⟨fun _ => rfl, fun _ => rfl⟩) (fun b1 hb => ?_)
  rw [o3]
  exact br_t rfl (br_c (fun g => cd_121 hQ he hf hb (u1 g)) (fun g => br_c (fun g2 => cd_121 hQ he hf hb (u2 g g2)) (fun g2 => cd_121 hQ he hf hb (u3 g g2))))
theorem cd_cell {post : Int32 → Prop} {L : Nat} {xs : Nat → Int32} (hL : L ≤ 4) {j : Nat} (hj : j < 4) (H : ∀ r, post r) : wpL_cellAt post L xs () (nI j) := by
  unfold wpL_cellAt
  exact pk_le L j (fun _ => H _) (fun z => ⟨pk_in j L z, H _⟩)
/-! ===== WHAT IS OWED for ChainDeskLaw: one statement: the law answers true on every script of L ints xs ===== -/
theorem i_vc (xs : Nat → Int32) (L : Nat) (hL : L ≤ 4) : wpL_law (fun r => r = 1) L xs := by
  unfold wpL_law
  exact cd_cell (j := 0) hL (by omega) (fun r1 => cd_cell (j := 1) hL (by omega) (fun r2 => cd_cell (j := 2) hL (by omega) (fun r3 => cd_cell (j := 3) hL (by omega) (fun r4 => ⟨32, 512, by omega, by omega, cd_lawOf rfl r1 r2 r3 r4⟩))))
end
