section
/-! numbers: an int by its toInt -/
theorem bs_cl {x : Int32} {n : Nat} (h : x.toInt = (n : Int)) : x.toNatClampNeg = n := by
  have hc : x.toNatClampNeg = x.toInt.toNat := rfl
  omega
theorem bs_in {x : Int32} {n : Nat} {N : Nat} (h : x.toInt = (n : Int)) (hn : n < N) : vp_in x N := vp_in_iff.mpr (by omega)
theorem bs_ad {x y : Int32} {a b : Int} (hx : x.toInt = a) (hy : y.toInt = b) (h1 : -1000 ≤ a + b) (h2 : a + b ≤ 1000) : (x + y).toInt = a + b := by
  rw [Jvm.Kit.i32_add (by rw [hx, hy]; omega) (by rw [hx, hy]; omega), hx, hy]
theorem bs_sb {x y : Int32} {a b : Int} (hx : x.toInt = a) (hy : y.toInt = b) (h1 : -1000 ≤ a - b) (h2 : a - b ≤ 1000) : (x - y).toInt = a - b := by
  rw [Jvm.Kit.i32_sub (by rw [hx, hy]; omega) (by rw [hx, hy]; omega), hx, hy]
theorem bs_c0 : (0 : Int32).toInt = 0 := by decide
theorem bs_c1 : (1 : Int32).toInt = 1 := by decide
theorem bs_c4 : (4 : Int32).toInt = 4 := by decide
theorem bs_c8 : (8 : Int32).toInt = 8 := by decide
theorem bs_c15 : (15 : Int32).toInt = 15 := by decide
theorem bs_cm1 : (-1 : Int32).toInt = -1 := by decide
theorem bs_cm4 : (-4 : Int32).toInt = -4 := by decide
theorem bs_le {x y : Int32} {a b : Int} (hx : x.toInt = a) (hy : y.toInt = b) : x ≤ y ↔ a ≤ b := by
  rw [Int32.le_iff_toInt_le, hx, hy]
theorem bs_lt {x y : Int32} {a b : Int} (hx : x.toInt = a) (hy : y.toInt = b) : x < y ↔ a < b := by
  rw [Int32.lt_iff_toInt_lt, hx, hy]
theorem bs_eq {x y : Int32} {a b : Int} (hx : x.toInt = a) (hy : y.toInt = b) : x = y ↔ a = b := by
  rw [← Int32.toInt_inj, hx, hy]
/-! two cells change places, each stored as a short -/
def bs_sw (c : Nat → Int32) (a b : Nat) : Nat → Int32 := upd (upd c a (vp_nar .short (c b))) b (vp_nar .short (c a))
def bs_fit (c : Nat → Int32) : Prop := ∀ i, vp_nar .short (c i) = c i
theorem bs_us {f : Nat → Int32} {k : Nat} {x : Int32} : upd f k x k = x := if_pos rfl
theorem bs_un {f : Nat → Int32} {k j : Nat} {x : Int32} (h : j ≠ k) : upd f k x j = f j := if_neg h
theorem bs_sw_a {c : Nat → Int32} {a b : Nat} (hc : bs_fit c) (h : a ≠ b) : bs_sw c a b a = c b := by
  unfold bs_sw
  rw [bs_un h, bs_us, hc b]
theorem bs_sw_b {c : Nat → Int32} {a b : Nat} (hc : bs_fit c) : bs_sw c a b b = c a := by
  unfold bs_sw
  rw [bs_us, hc a]
theorem bs_sw_o {c : Nat → Int32} {a b j : Nat} (ha : j ≠ a) (hb : j ≠ b) : bs_sw c a b j = c j := by
  unfold bs_sw
  rw [bs_un hb, bs_un ha]
theorem bs_sw_fit {c : Nat → Int32} {a b : Nat} (hc : bs_fit c) : bs_fit (bs_sw c a b) := by
  intro i
  by_cases hb : i = b
  · subst hb
    rw [bs_sw_b hc]
    exact hc a
  · by_cases ha : i = a
    · subst ha
      rw [bs_sw_a hc hb]
      exact hc b
    · rw [bs_sw_o ha hb]
      exact hc i
/-- the reference's loop over the d cells from l on: its answer, the cells -/
def bs_F (p : Int32) : Nat → Nat → (Nat → Int32) → Nat × (Nat → Int32)
  | 0, l, c => (l, c)
  | 1, l, c => if c l < p then (l + 1, c) else (l, c)
  | d + 2, l, c => if c l < p then bs_F p (d + 1) (l + 1) c else if c (l + d + 1) < p then bs_F p d (l + 1) (bs_sw c l (l + d + 1)) else bs_F p (d + 1) l c
theorem bs_F0 {p : Int32} {l : Nat} {c : Nat → Int32} : bs_F p 0 l c = (l, c) := by rw [bs_F]
theorem bs_F1 {p : Int32} {l : Nat} {c : Nat → Int32} : bs_F p 1 l c = if c l < p then (l + 1, c) else (l, c) := by rw [bs_F]
theorem bs_skL {p : Int32} {d l : Nat} {c : Nat → Int32} (h : c l < p) : bs_F p (d + 1) l c = bs_F p d (l + 1) c := by
  cases d with
  | zero => rw [show 0 + 1 = 1 from rfl, bs_F1, if_pos h, bs_F0]
  | succ d => rw [bs_F, if_pos h]
theorem bs_skR {p : Int32} {c : Nat → Int32} : ∀ {d l : Nat}, ¬ c (l + d) < p → bs_F p (d + 1) l c = bs_F p d l c := by
  intro d
  induction d with
  | zero =>
    intro l h
    have h' : ¬ c l < p := h
    rw [show 0 + 1 = 1 from rfl, bs_F1, if_neg h', bs_F0]
  | succ d ih =>
    intro l h
    by_cases hl : c l < p
    · have h' : ¬ c (l + 1 + d) < p := by
        rw [show l + 1 + d = l + (d + 1) from by omega]
        exact h
      rw [bs_skL hl, ih h', bs_skL hl]
    · have h' : ¬ c (l + d + 1) < p := h
      rw [bs_F, if_neg hl, if_neg h']
theorem bs_swp {p : Int32} {c : Nat → Int32} {d l : Nat} (hl : ¬ c l < p) (hr : c (l + d + 1) < p) : bs_F p (d + 2) l c = bs_F p d (l + 1) (bs_sw c l (l + d + 1)) := by
  rw [bs_F, if_neg hl, if_pos hr]
theorem bs_skLs {p : Int32} {c : Nat → Int32} {d : Nat} : ∀ {m l : Nat}, (∀ t, t < m → c (l + t) < p) → bs_F p (d + m) l c = bs_F p d (l + m) c := by
  intro m
  induction m with
  | zero => intro l _; rfl
  | succ m ih =>
    intro l h
    have h0 : c l < p := h 0 (by omega)
    have hs : ∀ t, t < m → c (l + 1 + t) < p := by
      intro t ht
      rw [show l + 1 + t = l + (t + 1) from by omega]
      exact h (t + 1) (by omega)
    rw [show d + (m + 1) = d + m + 1 from rfl, bs_skL h0, ih hs, show l + 1 + m = l + (m + 1) from by omega]
theorem bs_skRs {p : Int32} {c : Nat → Int32} {d l : Nat} : ∀ {m : Nat}, (∀ t, d ≤ t → t < d + m → ¬ c (l + t) < p) → bs_F p (d + m) l c = bs_F p d l c := by
  intro m
  induction m with
  | zero => intro _; rfl
  | succ m ih =>
    intro h
    rw [show d + (m + 1) = d + m + 1 from rfl, bs_skR (h (d + m) (by omega) (by omega)), ih (fun t h1 h2 => h t h1 (by omega))]
/-- the first cell from the left that isn't below p, at a, and the first from the right that is, at b, may change places -/
theorem bs_inv {p : Int32} {c : Nat → Int32} (hc : bs_fit c) {D l a b : Nat} (hla : l ≤ a) (hab : a < b) (hbD : b < l + D)
    (hL : ∀ i, l ≤ i → i < a → c i < p) (hR : ∀ i, b < i → i < l + D → ¬ c i < p) (ha : ¬ c a < p) (hb : c b < p) : bs_F p D l (bs_sw c a b) = bs_F p D l c := by
  obtain ⟨s, rfl⟩ : ∃ s, a = l + s := ⟨a - l, by omega⟩
  obtain ⟨e, rfl⟩ : ∃ e, b = l + s + e + 1 := ⟨b - (l + s) - 1, by omega⟩
  obtain ⟨t, rfl⟩ : ∃ t, D = (e + 2 + t) + s := ⟨D - (e + 2) - s, by omega⟩
  have k1 : bs_F p (e + 2 + t + s) l c = bs_F p e (l + s + 1) (bs_sw c (l + s) (l + s + e + 1)) := by
    rw [bs_skLs (fun i hi => hL (l + i) (by omega) (by omega)), bs_skRs (d := e + 2) (fun i h1 h2 => hR (l + s + i) (by omega) (by omega)), bs_swp ha hb]
  have g1 : ∀ i, i < s → bs_sw c (l + s) (l + s + e + 1) (l + i) < p := by
    intro i hi
    rw [bs_sw_o (by omega) (by omega)]
    exact hL (l + i) (by omega) (by omega)
  have g2 : ∀ i, e + 2 ≤ i → i < e + 2 + t → ¬ bs_sw c (l + s) (l + s + e + 1) (l + s + i) < p := by
    intro i h1 h2
    rw [bs_sw_o (by omega) (by omega)]
    exact hR (l + s + i) (by omega) (by omega)
  have g3 : bs_sw c (l + s) (l + s + e + 1) (l + s) < p := by
    rw [bs_sw_a hc (by omega)]
    exact hb
  have g4 : ¬ bs_sw c (l + s) (l + s + e + 1) (l + s + 1 + e) < p := by
    rw [show l + s + 1 + e = l + s + e + 1 from by omega, bs_sw_b hc]
    exact ha
  rw [k1, bs_skLs g1, bs_skRs (d := e + 2) g2, show e + 2 = e + 1 + 1 from rfl, bs_skL g3, bs_skR g4]
theorem bs_F_fit {p : Int32} : ∀ n d l : Nat, ∀ c : Nat → Int32, d < n → bs_fit c → bs_fit (bs_F p d l c).2 := by
  intro n
  induction n with
  | zero => intro d l c h; omega
  | succ n ih =>
    intro d l c hd hc
    match d with
    | 0 => rw [bs_F]; exact hc
    | 1 =>
      rw [bs_F]
      by_cases h : c l < p
      · rw [if_pos h]; exact hc
      · rw [if_neg h]; exact hc
    | d + 2 =>
      rw [bs_F]
      by_cases h : c l < p
      · rw [if_pos h]; exact ih (d + 1) (l + 1) c (by omega) hc
      · rw [if_neg h]
        by_cases h2 : c (l + d + 1) < p
        · rw [if_pos h2]; exact ih d (l + 1) _ (by omega) (bs_sw_fit hc)
        · rw [if_neg h2]; exact ih (d + 1) l c (by omega) hc
/-! the buffers -/
/-- b holds at s .. s + n - 1, in rising order, just the offsets t < j with q t -/
def bs_P (q : Nat → Prop) (j : Nat) (b : Nat → Int32) (s n : Nat) : Prop :=
  (∀ i, s ≤ i → i < s + n → 0 ≤ (b i).toInt ∧ (b i).toNatClampNeg < j ∧ q (b i).toNatClampNeg) ∧
  (∀ i k, s ≤ i → i < k → k < s + n → (b i).toNatClampNeg < (b k).toNatClampNeg) ∧
  (∀ t, t < j → q t → ∃ i, s ≤ i ∧ i < s + n ∧ (b i).toNatClampNeg = t)
theorem bs_P_0 {q : Nat → Prop} {b : Nat → Int32} : bs_P q 0 b 0 0 :=
  ⟨fun i h1 h2 => absurd h2 (by omega), fun i k h1 h2 h3 => absurd h3 (by omega), fun t ht => absurd ht (by omega)⟩
theorem bs_P_no {q : Nat → Prop} {j n : Nat} {b : Nat → Int32} {x : Int32} (h : bs_P q j b 0 n) (hq : ¬ q j) : bs_P q (j + 1) (upd b n x) 0 n := by
  obtain ⟨hA, hB, hC⟩ := h
  refine ⟨fun i h1 h2 => ?_, fun i k h1 h2 h3 => ?_, fun t ht hqt => ?_⟩
  · rw [bs_un (show i ≠ n by omega)]
    obtain ⟨a1, a2, a3⟩ := hA i h1 h2
    exact ⟨a1, by omega, a3⟩
  · rw [bs_un (show i ≠ n by omega), bs_un (show k ≠ n by omega)]
    exact hB i k h1 h2 h3
  · by_cases e : t = j
    · subst e
      exact absurd hqt hq
    · obtain ⟨i, i1, i2, i3⟩ := hC t (by omega) hqt
      refine ⟨i, i1, i2, ?_⟩
      rw [bs_un (show i ≠ n by omega)]
      exact i3
theorem bs_P_yes {q : Nat → Prop} {j n : Nat} {b : Nat → Int32} {x : Int32} (h : bs_P q j b 0 n) (hx : x.toInt = (j : Int)) (hq : q j) : bs_P q (j + 1) (upd b n x) 0 (n + 1) := by
  obtain ⟨hA, hB, hC⟩ := h
  have ex : x.toNatClampNeg = j := bs_cl hx
  refine ⟨fun i h1 h2 => ?_, fun i k h1 h2 h3 => ?_, fun t ht hqt => ?_⟩
  · by_cases e : i = n
    · subst e
      rw [bs_us, ex]
      exact ⟨by omega, by omega, hq⟩
    · rw [bs_un e]
      obtain ⟨a1, a2, a3⟩ := hA i h1 (by omega)
      exact ⟨a1, by omega, a3⟩
  · rw [bs_un (show i ≠ n by omega)]
    by_cases e : k = n
    · subst e
      rw [bs_us, ex]
      exact (hA i h1 (by omega)).2.1
    · rw [bs_un e]
      exact hB i k h1 h2 (by omega)
  · by_cases e : t = j
    · subst e
      refine ⟨n, by omega, by omega, ?_⟩
      rw [bs_us, ex]
    · obtain ⟨i, i1, i2, i3⟩ := hC t (by omega) hqt
      refine ⟨i, i1, by omega, ?_⟩
      rw [bs_un (show i ≠ n by omega)]
      exact i3
theorem bs_P_pop {q q' : Nat → Prop} {j s n : Nat} {b : Nat → Int32} (h : bs_P q j b s (n + 1)) (hq : ∀ t, t < j → (q' t ↔ q t ∧ t ≠ (b s).toNatClampNeg)) : bs_P q' j b (s + 1) n := by
  obtain ⟨hA, hB, hC⟩ := h
  refine ⟨fun i h1 h2 => ?_, fun i k h1 h2 h3 => hB i k (by omega) h2 (by omega), fun t ht hqt => ?_⟩
  · obtain ⟨a1, a2, a3⟩ := hA i (by omega) (by omega)
    have := hB s i (by omega) (by omega) (by omega)
    exact ⟨a1, a2, (hq _ a2).mpr ⟨a3, by omega⟩⟩
  · obtain ⟨q1, q2⟩ := (hq t ht).mp hqt
    obtain ⟨i, i1, i2, i3⟩ := hC t ht q1
    have : i ≠ s := by
      intro e
      subst e
      exact q2 i3.symm
    exact ⟨i, by omega, by omega, i3⟩
theorem bs_P_pre {q : Nat → Prop} {j s n : Nat} {b : Nat → Int32} (h : bs_P q j b s (n + 1)) : ∀ t, t < (b s).toNatClampNeg → ¬ q t := by
  obtain ⟨hA, hB, hC⟩ := h
  intro t ht hqt
  obtain ⟨a1, a2, a3⟩ := hA s (by omega) (by omega)
  obtain ⟨i, i1, i2, i3⟩ := hC t (by omega) hqt
  by_cases e : i = s
  · subst e
    omega
  · have := hB s i (by omega) (by omega) i2
    omega
theorem bs_P_nil {q : Nat → Prop} {j s : Nat} {b : Nat → Int32} (h : bs_P q j b s 0) : ∀ t, t < j → ¬ q t := by
  intro t ht hqt
  obtain ⟨i, i1, i2, i3⟩ := h.2.2 t ht hqt
  omega
theorem bs_b4 : ∀ j, j < 4 → vp_nar .byte (nI j).toInt8.toInt32 = nI j := by
  intro j hj
  rw [vp_nar_byte]
  match j, hj with
  | 0, _ => decide
  | 1, _ => decide
  | 2, _ => decide
  | 3, _ => decide
theorem bs_nb {x : Int32} {j : Nat} (h : x.toInt = (j : Int)) (hj : j < 4) : vp_nar .byte x.toInt8.toInt32 = x := by
  have e : x = nI j := Int32.toInt_inj.mp (by rw [h, nI_toInt (by omega)])
  rw [e]
  exact bs_b4 j hj
end
section
/-! the reference's loop is bs_F -/
theorem bs_Y {post : Int32 → SY → Prop} {p : Int32} : ∀ (n d l : Nat) (c : Nat → Int32) (x2 x3 : Int32), d < n → l + d ≤ 16 → x2.toInt = (l : Int) → x3.toInt = (l : Int) + d - 1 →
    (∀ y : Int32, y.toInt = ((bs_F p d l c).1 : Int) → post y (bs_F p d l c).2) → wY_split_5 post p n x2 x3 c := by
  intro n
  induction n with
  | zero => intro d l c x2 x3 h; omega
  | succ n ih =>
    intro d l c x2 x3 hd hld h2 h3 hp
    have e2 : x2.toNatClampNeg = l := bs_cl h2
    rw [wY_split_5]
    match d with
    | 0 =>
      have hle : x3 ≤ x2 := (bs_le h3 h2).mpr (by omega)
      have hne : ¬ x2 = x3 := fun e => absurd ((bs_eq h2 h3).mp e) (by omega)
      refine br_t hle (br_f hne ?_)
      rw [bs_F0] at hp
      exact hp x2 h2
    | 1 =>
      have hle : x3 ≤ x2 := (bs_le h3 h2).mpr (by omega)
      have heq : x2 = x3 := (bs_eq h2 h3).mpr (by omega)
      refine br_t hle (br_t heq ⟨bs_in h2 (by omega), ?_⟩)
      rw [e2]
      rw [bs_F] at hp
      by_cases hc : c l < p
      · rw [if_pos hc] at hp
        refine br_f (Int32.not_le.mpr hc) (nm_e ?_)
        exact hp (x2 + 1) (by rw [bs_ad h2 bs_c1 (by omega) (by omega)]; rfl)
      · rw [if_neg hc] at hp
        exact br_t (Int32.not_lt.mp hc) (hp x2 h2)
    | d + 2 =>
      have hnle : ¬ x3 ≤ x2 := fun e => absurd ((bs_le h3 h2).mp e) (by omega)
      have h3' : x3.toInt = ((l + d + 1 : Nat) : Int) := by omega
      have e3 : x3.toNatClampNeg = l + d + 1 := bs_cl h3'
      have hi2 : vp_in x2 16 := bs_in h2 (by omega)
      have hi3 : vp_in x3 16 := bs_in h3' (by omega)
      have h2s : (x2 + 1).toInt = ((l + 1 : Nat) : Int) := by rw [bs_ad h2 bs_c1 (by omega) (by omega)]; omega
      have h3p : (x3 + (-1)).toInt = (l : Int) + d := by rw [bs_ad h3 bs_cm1 (by omega) (by omega)]; omega
      refine br_f hnle ⟨hi2, ?_⟩
      rw [e2, e3]
      by_cases hc : c l < p
      · rw [bs_skL hc] at hp
        exact br_f (Int32.not_le.mpr hc) (nm_e (ih (d + 1) (l + 1) c _ _ (by omega) (by omega) h2s (by omega) hp))
      · refine br_t (Int32.not_lt.mp hc) ⟨hi3, ?_⟩
        by_cases hr : c (l + d + 1) < p
        · rw [bs_swp hc hr] at hp
          refine br_t hr ⟨hi2, nm_e ⟨hi3, hi2, nm_e ⟨hi3, nm_e (nm_e (nm_e ?_))⟩⟩⟩
          exact ih d (l + 1) (bs_sw c l (l + d + 1)) _ _ (by omega) (by omega) h2s (by omega) hp
        · have hr' : ¬ c (l + (d + 1)) < p := hr
          rw [bs_skR hr'] at hp
          exact br_f hr (nm_e (ih (d + 1) l c _ _ (by omega) (by omega) h2 (by omega) hp))
/-! the component's scalar loop is bs_F -/
theorem bs_X299 {post : Int32 → SX → Prop} {J : Int32 → Int32 → (Nat → Int32) → (Nat → Int32) → (Nat → Int32) → Prop} {p : Int32} {bl br : Nat → Int32} {D : Nat}
    (hJ : ∀ (d l : Nat) (c : Nat → Int32) (x2 x3 : Int32), d < D → l + d ≤ 16 → x2.toInt = (l : Int) → x3.toInt = (l : Int) + d - 1 →
      (∀ y : Int32, y.toInt = ((bs_F p d l c).1 : Int) → post y ((bs_F p d l c).2, bl, br)) → J x2 x3 c bl br) :
    ∀ (n d l : Nat) (c : Nat → Int32) (x2 x3 : Int32), d < n → d ≤ D → l + d ≤ 16 → x2.toInt = (l : Int) → x3.toInt = (l : Int) + d - 1 → (d = 0 ∨ ¬ c l < p) →
    (∀ y : Int32, y.toInt = ((bs_F p d l c).1 : Int) → post y ((bs_F p d l c).2, bl, br)) → wX_split_299 post J p x2 c bl br n x3 := by
  intro n
  induction n with
  | zero => intro d l c x2 x3 h; omega
  | succ n ih =>
    intro d l c x2 x3 hd hD hld h2 h3 h0 hp
    have e2 : x2.toNatClampNeg = l := bs_cl h2
    rw [wX_split_299]
    match d with
    | 0 =>
      have hlt : x3 < x2 := (bs_lt h3 h2).mpr (by omega)
      have hnl : ¬ x2 < x3 := fun e => absurd ((bs_lt h2 h3).mp e) (by omega)
      rw [bs_F0] at hp
      refine br_t hlt ?_
      unfold wX_split_320
      exact br_f hnl (hp x2 h2)
    | d + 1 =>
      have hc : ¬ c l < p := h0.resolve_left (by omega)
      have hnlt : ¬ x3 < x2 := fun e => absurd ((bs_lt h3 h2).mp e) (by omega)
      have h3' : x3.toInt = ((l + d : Nat) : Int) := by omega
      have e3 : x3.toNatClampNeg = l + d := bs_cl h3'
      have hi2 : vp_in x2 16 := bs_in h2 (by omega)
      have hi3 : vp_in x3 16 := bs_in h3' (by omega)
      refine br_f hnlt ⟨hi3, ?_⟩
      rw [e3]
      by_cases hr : c (l + d) < p
      · refine br_t hr ?_
        match d with
        | 0 => exact absurd hr hc
        | d + 1 =>
          have hlt : x2 < x3 := (bs_lt h2 h3).mpr (by omega)
          have h2s : (x2 + 1).toInt = ((l + 1 : Nat) : Int) := by rw [bs_ad h2 bs_c1 (by omega) (by omega)]; omega
          have h3p : (x3 + (-1)).toInt = ((l + 1 : Nat) : Int) + d - 1 := by rw [bs_ad h3 bs_cm1 (by omega) (by omega)]; omega
          have hr' : c (l + d + 1) < p := hr
          have e3' : x3.toNatClampNeg = l + d + 1 := e3
          rw [bs_swp hc hr'] at hp
          unfold wX_split_320
          rw [e2, e3']
          refine br_t hlt ⟨hi2, nm_e ⟨hi3, hi2, nm_e ⟨hi3, nm_e (nm_e (nm_e ?_))⟩⟩⟩
          exact hJ d (l + 1) (bs_sw c l (l + d + 1)) _ _ (by omega) (by omega) h2s h3p hp
      · rw [bs_skR hr] at hp
        have h3p : (x3 + (-1)).toInt = (l : Int) + d - 1 := by rw [bs_ad h3 bs_cm1 (by omega) (by omega)]; omega
        exact br_f hr (nm_e (ih d l c x2 _ (by omega) (by omega) (by omega) h2 h3p (Or.inr hc) hp))
theorem bs_X278 {post : Int32 → SX → Prop} {p : Int32} {bl br : Nat → Int32} : ∀ (n d l : Nat) (c : Nat → Int32) (x2 x3 : Int32), d < n → l + d ≤ 16 → x2.toInt = (l : Int) → x3.toInt = (l : Int) + d - 1 →
    (∀ y : Int32, y.toInt = ((bs_F p d l c).1 : Int) → post y ((bs_F p d l c).2, bl, br)) → wX_split_278 post p n x2 x3 c bl br := by
  intro n
  induction n with
  | zero => intro d l c x2 x3 h; omega
  | succ n ih =>
    intro d l c x2 x3 hd hld h2 h3 hp
    have e2 : x2.toNatClampNeg = l := bs_cl h2
    rw [wX_split_278]
    match d with
    | 0 =>
      have hlt : x3 < x2 := (bs_lt h3 h2).mpr (by omega)
      refine br_t hlt ⟨1, ?_⟩
      exact bs_X299 (D := 0) (fun d l c x2 x3 h => absurd h (by omega)) 1 0 l c x2 x3 (by omega) (by omega) hld h2 h3 (Or.inl rfl) hp
    | d + 1 =>
      have hnlt : ¬ x3 < x2 := fun e => absurd ((bs_lt h3 h2).mp e) (by omega)
      refine br_f hnlt ⟨bs_in h2 (by omega), ?_⟩
      rw [e2]
      by_cases hc : c l < p
      · rw [bs_skL hc] at hp
        have h2s : (x2 + 1).toInt = ((l + 1 : Nat) : Int) := by rw [bs_ad h2 bs_c1 (by omega) (by omega)]; omega
        exact br_f (Int32.not_le.mpr hc) (nm_e (ih d (l + 1) c _ x3 (by omega) (by omega) h2s (by omega) hp))
      · refine br_t (Int32.not_lt.mp hc) ⟨d + 2, ?_⟩
        exact bs_X299 (D := d + 1) (fun d' l' c' y2 y3 h a b e f => ih d' l' c' y2 y3 (by omega) a b e f) (d + 2) (d + 1) l c x2 x3 (by omega) (by omega) hld h2 h3 (Or.inr hc) hp
end
section
/-! the block phase -/
def bs_L (p : Int32) (l : Nat) (c b : Nat → Int32) (x4 x6 : Int32) : Prop := ∃ n s : Nat, x4.toInt = (n : Int) ∧ x6.toInt = (s : Int) ∧ s + n ≤ 4 ∧ bs_P (fun t => ¬ c (l + t) < p) 4 b s n
def bs_R (p : Int32) (r : Nat) (c b : Nat → Int32) (x5 x7 : Int32) : Prop := ∃ n s : Nat, x5.toInt = (n : Int) ∧ x7.toInt = (s : Int) ∧ s + n ≤ 4 ∧ bs_P (fun t => c (r - t) < p) 4 b s n
section BS
variable {post : Int32 → SX → Prop} {J : Int32 → Int32 → Int32 → Int32 → Int32 → Int32 → (Nat → Int32) → (Nat → Int32) → (Nat → Int32) → Prop} {p : Int32}
theorem bs_X38 {x2 x3 x5 x6 x7 : Int32} {l : Nat} {c br : Nat → Int32} (h2 : x2.toInt = (l : Int)) (hl : l + 4 ≤ 16)
    (K : ∀ (n : Nat) (x4 : Int32) (bl : Nat → Int32), x4.toInt = (n : Int) → n ≤ 4 → bs_P (fun t => ¬ c (l + t) < p) 4 bl 0 n → wX_split_83 post J p x2 x3 x4 x5 x6 x7 c bl br) :
    ∀ (f j n : Nat) (x4 x8 : Int32) (bl : Nat → Int32), 4 < f + j → j ≤ 4 → n ≤ j → x4.toInt = (n : Int) → x8.toInt = (j : Int) → bs_P (fun t => ¬ c (l + t) < p) j bl 0 n →
    wX_split_38 post J p x2 x3 x5 x6 x7 f x4 x8 c bl br := by
  intro f
  induction f with
  | zero => intro j n x4 x8 bl h1 h2; omega
  | succ f ih =>
    intro j n x4 x8 bl hf hj hn h4 h8 hP
    rw [wX_split_38]
    by_cases e : j = 4
    · subst e
      have hle : (4 : Int32) ≤ x8 := (bs_le bs_c4 h8).mpr (by omega)
      exact br_t hle (K n x4 bl h4 hn hP)
    · have hnle : ¬ (4 : Int32) ≤ x8 := fun z => absurd ((bs_le bs_c4 h8).mp z) (by omega)
      have h28 : (x2 + x8).toInt = ((l + j : Nat) : Int) := by rw [bs_ad h2 h8 (by omega) (by omega)]; omega
      have e4 : x4.toNatClampNeg = n := bs_cl h4
      have e28 : (x2 + x8).toNatClampNeg = l + j := bs_cl h28
      have h8s : (x8 + 1).toInt = ((j + 1 : Nat) : Int) := by rw [bs_ad h8 bs_c1 (by omega) (by omega)]; omega
      refine br_f hnle ⟨bs_in h4 (by omega), nm_e ⟨bs_in h28 (by omega), ?_⟩⟩
      rw [e28, e4, bs_nb h8 (by omega)]
      by_cases hc : c (l + j) < p
      · have h4s : (x4 + 0).toInt = (n : Int) := by rw [bs_ad h4 bs_c0 (by omega) (by omega)]; omega
        exact br_t hc (nm_e (nm_e (ih (j + 1) n _ _ _ (by omega) (by omega) (by omega) h4s h8s (bs_P_no hP (fun z => z hc)))))
      · have h4s : (x4 + 1).toInt = ((n + 1 : Nat) : Int) := by rw [bs_ad h4 bs_c1 (by omega) (by omega)]; omega
        exact br_f hc (nm_e (nm_e (ih (j + 1) (n + 1) _ _ _ (by omega) (by omega) (by omega) h4s h8s (bs_P_yes hP h8 hc))))
theorem bs_X94 {x2 x3 x4 x6 x7 : Int32} {r : Nat} {c bl : Nat → Int32} (h3 : x3.toInt = (r : Int)) (hr : r < 16) (hr3 : 3 ≤ r)
    (K : ∀ (n : Nat) (x5 : Int32) (br : Nat → Int32), x5.toInt = (n : Int) → n ≤ 4 → bs_P (fun t => c (r - t) < p) 4 br 0 n → wX_split_139 post J p x2 x3 x4 x5 x6 x7 c bl br) :
    ∀ (f j n : Nat) (x5 x8 : Int32) (br : Nat → Int32), 4 < f + j → j ≤ 4 → n ≤ j → x5.toInt = (n : Int) → x8.toInt = (j : Int) → bs_P (fun t => c (r - t) < p) j br 0 n →
    wX_split_94 post J p x2 x3 x4 x6 x7 f x5 x8 c bl br := by
  intro f
  induction f with
  | zero => intro j n x5 x8 br h1 h2; omega
  | succ f ih =>
    intro j n x5 x8 br hf hj hn h5 h8 hP
    rw [wX_split_94]
    by_cases e : j = 4
    · subst e
      have hle : (4 : Int32) ≤ x8 := (bs_le bs_c4 h8).mpr (by omega)
      exact br_t hle (K n x5 br h5 hn hP)
    · have hnle : ¬ (4 : Int32) ≤ x8 := fun z => absurd ((bs_le bs_c4 h8).mp z) (by omega)
      have h38 : (x3 - x8).toInt = ((r - j : Nat) : Int) := by rw [bs_sb h3 h8 (by omega) (by omega)]; omega
      have e5 : x5.toNatClampNeg = n := bs_cl h5
      have e38 : (x3 - x8).toNatClampNeg = r - j := bs_cl h38
      have h8s : (x8 + 1).toInt = ((j + 1 : Nat) : Int) := by rw [bs_ad h8 bs_c1 (by omega) (by omega)]; omega
      refine br_f hnle ⟨bs_in h5 (by omega), nm_e ⟨bs_in h38 (by omega), ?_⟩⟩
      rw [e38, e5, bs_nb h8 (by omega)]
      by_cases hc : c (r - j) < p
      · have h5s : (x5 + 1).toInt = ((n + 1 : Nat) : Int) := by rw [bs_ad h5 bs_c1 (by omega) (by omega)]; omega
        exact br_f (Int32.not_le.mpr hc) (nm_e (nm_e (ih (j + 1) (n + 1) _ _ _ (by omega) (by omega) (by omega) h5s h8s (bs_P_yes hP h8 hc))))
      · have h5s : (x5 + 0).toInt = (n : Int) := by rw [bs_ad h5 bs_c0 (by omega) (by omega)]; omega
        exact br_t (Int32.not_lt.mp hc) (nm_e (nm_e (ih (j + 1) n _ _ _ (by omega) (by omega) (by omega) h5s h8s (bs_P_no hP hc))))
/-- what the loop's head is asked: a shorter stretch with the same outcome -/
def bs_H (p : Int32) (J : Int32 → Int32 → Int32 → Int32 → Int32 → Int32 → (Nat → Int32) → (Nat → Int32) → (Nat → Int32) → Prop) (bl br : Nat → Int32) (d : Nat) (A : Nat × (Nat → Int32)) : Prop :=
  ∀ (d' l' r' : Nat) (c' : Nat → Int32) (x2 x3 x4 x5 x6 x7 : Int32), d' < d → l' + d' ≤ 16 → r' = l' + d' - 1 → x2.toInt = (l' : Int) → x3.toInt = (l' : Int) + d' - 1 →
    (x4 = 0 ∨ bs_L p l' c' bl x4 x6) → (x5 = 0 ∨ bs_R p r' c' br x5 x7) → bs_fit c' → bs_F p d' l' c' = A → J x2 x3 x4 x5 x6 x7 c' bl br
/-- one swap: the first that is left in either buffer -/
theorem bs_step {c bl br : Nat → Int32} {d l r sl sr a b : Nat} (hd : 8 ≤ d) (er : r + 1 = l + d) (hL : bs_P (fun t => ¬ c (l + t) < p) 4 bl sl (a + 1)) (hR : bs_P (fun t => c (r - t) < p) 4 br sr (b + 1)) (hfit : bs_fit c) :
    ∃ o w : Nat, o < 4 ∧ w < 4 ∧ (bl sl).toInt = (o : Int) ∧ (br sr).toInt = (w : Int) ∧ bs_P (fun t => ¬ bs_sw c (l + o) (r - w) (l + t) < p) 4 bl (sl + 1) a ∧
      bs_P (fun t => bs_sw c (l + o) (r - w) (r - t) < p) 4 br (sr + 1) b ∧ bs_F p d l (bs_sw c (l + o) (r - w)) = bs_F p d l c := by
  obtain ⟨a1, a2, a3⟩ := hL.1 sl (by omega) (by omega)
  obtain ⟨b1, b2, b3⟩ := hR.1 sr (by omega) (by omega)
  have pL := bs_P_pre hL
  have pR := bs_P_pre hR
  obtain ⟨o, eo⟩ : ∃ o, o = (bl sl).toNatClampNeg := ⟨_, rfl⟩
  obtain ⟨w, ew⟩ : ∃ w, w = (br sr).toNatClampNeg := ⟨_, rfl⟩
  have to : (bl sl).toInt = (o : Int) := by
    have hc : (bl sl).toNatClampNeg = (bl sl).toInt.toNat := rfl
    omega
  have tw : (br sr).toInt = (w : Int) := by
    have hc : (br sr).toNatClampNeg = (br sr).toInt.toNat := rfl
    omega
  rw [← eo] at a2 a3 pL
  rw [← ew] at b2 b3 pR
  refine ⟨o, w, a2, b2, to, tw, ?_, ?_, ?_⟩
  · refine bs_P_pop (q := fun t => ¬ c (l + t) < p) hL (fun t ht => ?_)
    rw [← eo]
    clear to tw eo ew a1 b1
    by_cases z : t = o
    · subst z
      rw [bs_sw_a hfit (by omega)]
      exact ⟨fun v => absurd b3 v, fun v => absurd rfl v.2⟩
    · rw [bs_sw_o (show l + t ≠ l + o by omega) (show l + t ≠ r - w by omega)]
      exact ⟨fun v => ⟨v, z⟩, fun v => v.1⟩
  · refine bs_P_pop (q := fun t => c (r - t) < p) hR (fun t ht => ?_)
    rw [← ew]
    clear to tw eo ew a1 b1
    by_cases z : t = w
    · subst z
      rw [bs_sw_b hfit]
      exact ⟨fun v => absurd v a3, fun v => absurd rfl v.2⟩
    · rw [bs_sw_o (show r - t ≠ l + o by omega) (show r - t ≠ r - w by omega)]
      exact ⟨fun v => ⟨v, z⟩, fun v => v.1⟩
  · clear to tw eo ew a1 b1
    refine bs_inv hfit (by omega) (by omega) (by omega) (fun i h1 h2 => ?_) (fun i h1 h2 => ?_) a3 b3
    · have v := pL (i - l) (by omega)
      rw [show l + (i - l) = i from by omega] at v
      exact Classical.byContradiction v
    · have v := pR (r - i) (by omega)
      rw [show r - (r - i) = i from by omega] at v
      exact v
theorem bs_endL {c bl : Nat → Int32} {d l sl : Nat} (hL : bs_P (fun t => ¬ c (l + t) < p) 4 bl sl 0) : bs_F p (d + 4) l c = bs_F p d (l + 4) c :=
  bs_skLs (m := 4) (fun t ht => Classical.byContradiction (fun w => bs_P_nil hL t ht w))
theorem bs_endR {c br : Nat → Int32} {d l r sr : Nat} (er : r + 1 = l + (d + 4)) (hR : bs_P (fun t => c (r - t) < p) 4 br sr 0) : bs_F p (d + 4) l c = bs_F p d l c := by
  refine bs_skRs (fun t h1 h2 => ?_)
  have w := bs_P_nil hR (r - (l + t)) (by omega)
  rw [show r - (r - (l + t)) = l + t from by omega] at w
  exact w
theorem bs_Xend {x2 x3 x4 x5 x6 x7 : Int32} {c bl br : Nat → Int32} {A : Nat × (Nat → Int32)} {d l r a b s w : Nat} (hJ : bs_H p J bl br (d + 8) A)
    (hld : l + (d + 8) ≤ 16) (er : r + 1 = l + (d + 8)) (h2 : x2.toInt = (l : Int)) (h3 : x3.toInt = (l : Int) + d + 7) (h4 : x4.toInt = (a : Int)) (h5 : x5.toInt = (b : Int))
    (h6 : x6.toInt = (s : Int)) (h7 : x7.toInt = (w : Int)) (hab : a = 0 ∨ b = 0) (hs : s + a ≤ 4) (hw : w + b ≤ 4) (hL : bs_P (fun t => ¬ c (l + t) < p) 4 bl s a) (hR : bs_P (fun t => c (r - t) < p) 4 br w b)
    (hfit : bs_fit c) (hA : bs_F p (d + 8) l c = A) :
    (x4 = 0 → ∀ y : Int32, y = x2 + 4 → wX_split_267 post J p y x3 x4 x5 x6 x7 c bl br) ∧ (¬ x4 = 0 → wX_split_267 post J p x2 x3 x4 x5 x6 x7 c bl br) := by
  by_cases za : a = 0
  · have z4 : x4 = 0 := (bs_eq h4 bs_c0).mpr (by omega)
    refine br_t z4 (fun y2 ey => ?_)
    have g2 : y2.toInt = ((l + 4 : Nat) : Int) := by rw [ey, bs_ad h2 bs_c4 (by omega) (by omega)]; omega
    clear ey
    unfold wX_split_267
    rw [za] at hL
    have kL : bs_F p (d + 8) l c = bs_F p (d + 4) (l + 4) c := bs_endL (d := d + 4) hL
    by_cases zb : b = 0
    · have z5 : x5 = 0 := (bs_eq h5 bs_c0).mpr (by omega)
      refine br_t z5 (fun y3 ey => ?_)
      have g3 : y3.toInt = (l : Int) + d + 3 := by rw [ey, bs_ad h3 bs_cm4 (by omega) (by omega)]; omega
      clear ey
      rw [zb] at hR
      have kR : bs_F p (d + 4) (l + 4) c = bs_F p d (l + 4) c := bs_endR (by omega) hR
      exact hJ d (l + 4) (l + 4 + d - 1) c _ _ _ _ _ _ (by omega) (by omega) rfl g2 (by omega) (Or.inl z4) (Or.inl z5) hfit (by rw [← kR, ← kL]; exact hA)
    · have z5 : ¬ x5 = 0 := fun v => absurd ((bs_eq h5 bs_c0).mp v) (by omega)
      refine br_f z5 ?_
      exact hJ (d + 4) (l + 4) r c _ _ _ _ _ _ (by omega) (by omega) (by omega) g2 (by omega) (Or.inl z4) (Or.inr ⟨b, w, h5, h7, hw, hR⟩) hfit (by rw [← kL]; exact hA)
  · have z4 : ¬ x4 = 0 := fun v => absurd ((bs_eq h4 bs_c0).mp v) (by omega)
    have zb : b = 0 := hab.resolve_left za
    have z5 : x5 = 0 := (bs_eq h5 bs_c0).mpr (by omega)
    refine br_f z4 ?_
    unfold wX_split_267
    refine br_t z5 (fun y3 ey => ?_)
    have g3 : y3.toInt = (l : Int) + d + 3 := by rw [ey, bs_ad h3 bs_cm4 (by omega) (by omega)]; omega
    clear ey
    rw [zb] at hR
    have kR : bs_F p (d + 8) l c = bs_F p (d + 4) l c := bs_endR (d := d + 4) (by omega) hR
    exact hJ (d + 4) l (l + (d + 4) - 1) c _ _ _ _ _ _ (by omega) (by omega) rfl h2 (by omega) (Or.inr ⟨a, s, h4, h6, hs, hL⟩) (Or.inl z5) hfit (by rw [← kR]; exact hA)
theorem bs_X158 {x2 x3 x4 x5 x6 x7 x8 : Int32} {bl br : Nat → Int32} {A : Nat × (Nat → Int32)} {d l r : Nat} (hJ : bs_H p J bl br (d + 8) A)
    (hld : l + (d + 8) ≤ 16) (er : r + 1 = l + (d + 8)) (h2 : x2.toInt = (l : Int)) (h3 : x3.toInt = (l : Int) + d + 7) :
    ∀ (e f k a b s w : Nat) (c : Nat → Int32) (x9 : Int32), e < f → e ≤ a → e ≤ b → (e = a ∨ e = b) → s + a ≤ 4 → w + b ≤ 4 → k + a ≤ 4 →
    x4.toInt = (k : Int) + a → x5.toInt = (k : Int) + b → x6.toInt = (s : Int) - k → x7.toInt = (w : Int) - k → x8.toInt = (k : Int) + e → x9.toInt = (k : Int) →
    bs_P (fun t => ¬ c (l + t) < p) 4 bl s a → bs_P (fun t => c (r - t) < p) 4 br w b → bs_fit c → bs_F p (d + 8) l c = A → wX_split_158 post J p x2 x3 x4 x5 x6 x7 x8 f x9 c bl br := by
  intro e
  induction e with
  | zero =>
    intro f k a b s w c x9 hf ha hb hab hs hw hk h4 h5 h6 h7 h8 h9 hL hR hfit hA
    obtain ⟨f, rfl⟩ : ∃ f', f = f' + 1 := ⟨f - 1, by omega⟩
    have hle : x8 ≤ x9 := (bs_le h8 h9).mpr (by omega)
    have g4 : (x4 - x8).toInt = (a : Int) := by rw [bs_sb h4 h8 (by omega) (by omega)]; omega
    have g5 : (x5 - x8).toInt = (b : Int) := by rw [bs_sb h5 h8 (by omega) (by omega)]; omega
    have g6 : (x6 + x8).toInt = (s : Int) := by rw [bs_ad h6 h8 (by omega) (by omega)]; omega
    have g7 : (x7 + x8).toInt = (w : Int) := by rw [bs_ad h7 h8 (by omega) (by omega)]; omega
    rw [wX_split_158]
    exact br_t hle (nm_e (nm_e (nm_e (nm_e (bs_Xend hJ hld er h2 h3 g4 g5 g6 g7 (hab.imp Eq.symm Eq.symm) hs hw hL hR hfit hA)))))
  | succ e ih =>
    intro f k a b s w c x9 hf ha hb hab hs hw hk h4 h5 h6 h7 h8 h9 hL hR hfit hA
    obtain ⟨f, rfl⟩ : ∃ f', f = f' + 1 := ⟨f - 1, by omega⟩
    obtain ⟨a, rfl⟩ : ∃ a', a = a' + 1 := ⟨a - 1, by omega⟩
    obtain ⟨b, rfl⟩ : ∃ b', b = b' + 1 := ⟨b - 1, by omega⟩
    have hnle : ¬ x8 ≤ x9 := fun z => absurd ((bs_le h8 h9).mp z) (by omega)
    have g6 : (x6 + x9).toInt = (s : Int) := by rw [bs_ad h6 h9 (by omega) (by omega)]; omega
    have g7 : (x7 + x9).toInt = (w : Int) := by rw [bs_ad h7 h9 (by omega) (by omega)]; omega
    have e6 : (x6 + x9).toNatClampNeg = s := bs_cl g6
    have e7 : (x7 + x9).toNatClampNeg = w := bs_cl g7
    have i6 : vp_in (x6 + x9) 4 := bs_in g6 (by omega)
    have i7 : vp_in (x7 + x9) 4 := bs_in g7 (by omega)
    have h9s : (x9 + 1).toInt = ((k + 1 : Nat) : Int) := by rw [bs_ad h9 bs_c1 (by omega) (by omega)]; omega
    have IH := fun c' => ih f (k + 1) a b (s + 1) (w + 1) c' (x9 + 1) (by omega) (by omega) (by omega) (by omega) (by omega) (by omega) (by omega) (by omega) (by omega) (by omega) (by omega) (by omega) h9s
    clear ih g6 g7 h9s h4 h5 h6 h7 h8 h9 ha hb hab hs hw hk hf
    obtain ⟨o, v, ho, hv, to, tv, pL, pR, kF⟩ := bs_step (d := d + 8) (by omega) er hL hR hfit
    have ga : (x2 + bl s).toInt = ((l + o : Nat) : Int) := by rw [bs_ad h2 to (by omega) (by omega)]; omega
    have gb : (x3 - br w).toInt = ((r - v : Nat) : Int) := by rw [bs_sb h3 tv (by omega) (by omega)]; omega
    have ea : (x2 + bl s).toNatClampNeg = l + o := bs_cl ga
    have eb : (x3 - br w).toNatClampNeg = r - v := bs_cl gb
    have ia : vp_in (x2 + bl s) 16 := bs_in ga (by omega)
    have ib : vp_in (x3 - br w) 16 := bs_in gb (by omega)
    rw [wX_split_158]
    dsimp only
    rw [e6, e7]
    refine br_f hnle ⟨i6, nm_e ⟨i7, nm_e ⟨ia, ?_⟩⟩⟩
    rw [ea, eb]
    refine nm_e ⟨ib, ia, nm_e ⟨ib, nm_e (nm_e ?_)⟩⟩
    exact IH (bs_sw c (l + o) (r - v)) pL pR (bs_sw_fit hfit) (kF.trans hA)
theorem bs_X139 {x2 x3 x4 x5 x6 x7 : Int32} {c bl br : Nat → Int32} {d l r : Nat} (hJ : bs_H p J bl br (d + 8) (bs_F p (d + 8) l c))
    (hld : l + (d + 8) ≤ 16) (er : r + 1 = l + (d + 8)) (h2 : x2.toInt = (l : Int)) (h3 : x3.toInt = (l : Int) + d + 7) (hL : bs_L p l c bl x4 x6) (hR : bs_R p r c br x5 x7) (hfit : bs_fit c) :
    wX_split_139 post J p x2 x3 x4 x5 x6 x7 c bl br := by
  obtain ⟨a, s, h4, h6, hs, hL⟩ := hL
  obtain ⟨b, w, h5, h7, hw, hR⟩ := hR
  unfold wX_split_139
  by_cases e : x5 ≤ x4
  · have e' : b ≤ a := by have := (bs_le h5 h4).mp e; omega
    exact br_t e ⟨b + 1, bs_X158 hJ hld er h2 h3 b (b + 1) 0 a b s w c 0 (by omega) e' (by omega) (Or.inr rfl) hs hw (by omega) (by omega) (by omega) (by omega) (by omega) (by omega) bs_c0 hL hR hfit rfl⟩
  · have e' : a ≤ b := by
      have h : ¬ ((b : Int) ≤ (a : Int)) := fun z => e ((bs_le h5 h4).mpr z)
      omega
    exact br_f e ⟨a + 1, bs_X158 hJ hld er h2 h3 a (a + 1) 0 a b s w c 0 (by omega) (by omega) e' (Or.inl rfl) hs hw (by omega) (by omega) (by omega) (by omega) (by omega) (by omega) bs_c0 hL hR hfit rfl⟩
theorem bs_X83 {x2 x3 x4 x5 x6 x7 : Int32} {c bl br : Nat → Int32} {d l r : Nat} (hJ : ∀ br' : Nat → Int32, bs_H p J bl br' (d + 8) (bs_F p (d + 8) l c))
    (hld : l + (d + 8) ≤ 16) (er : r + 1 = l + (d + 8)) (h2 : x2.toInt = (l : Int)) (h3 : x3.toInt = (l : Int) + d + 7) (hL : bs_L p l c bl x4 x6) (hR : x5 = 0 ∨ bs_R p r c br x5 x7) (hfit : bs_fit c) :
    wX_split_83 post J p x2 x3 x4 x5 x6 x7 c bl br := by
  unfold wX_split_83
  by_cases e : x5 = 0
  · subst e
    have h3r : x3.toInt = (r : Int) := by omega
    refine br_t rfl ⟨5, ?_⟩
    exact bs_X94 h3r (by omega) (by omega) (fun n x5 br' h5 hn hP => bs_X139 (hJ br') hld er h2 h3 hL ⟨n, 0, h5, bs_c0, by omega, hP⟩ hfit) 5 0 0 0 0 br (by omega) (by omega) (by omega) bs_c0 bs_c0 bs_P_0
  · exact br_f e (bs_X139 (hJ br) hld er h2 h3 hL (hR.resolve_left e) hfit)
end BS
theorem bs_X17 {post : Int32 → SX → Prop} {p : Int32} {A : Nat × (Nat → Int32)} (hp : ∀ (y : Int32) (bl br : Nat → Int32), y.toInt = (A.1 : Int) → post y (A.2, bl, br)) :
    ∀ (f d l r : Nat) (c bl br : Nat → Int32) (x2 x3 x4 x5 x6 x7 : Int32), d < f → l + d ≤ 16 → r = l + d - 1 → x2.toInt = (l : Int) → x3.toInt = (l : Int) + d - 1 →
    (x4 = 0 ∨ bs_L p l c bl x4 x6) → (x5 = 0 ∨ bs_R p r c br x5 x7) → bs_fit c → bs_F p d l c = A → wX_split_17 post p f x2 x3 x4 x5 x6 x7 c bl br := by
  intro f
  induction f with
  | zero => intro d l r c bl br x2 x3 x4 x5 x6 x7 h; omega
  | succ f ih =>
    intro d l r c bl br x2 x3 x4 x5 x6 x7 hd hld er h2 h3 hL hR hfit hA
    have g : ((x3 - x2) + 1).toInt = (d : Int) := by
      rw [bs_ad (bs_sb h3 h2 (by omega) (by omega)) bs_c1 (by omega) (by omega)]
      omega
    rw [wX_split_17]
    by_cases e : d < 8
    · have e' : (x3 - x2) + 1 < 8 := (bs_lt g bs_c8).mpr (by omega)
      refine br_t e' ⟨d + 1, ?_⟩
      exact bs_X278 (d + 1) d l c x2 x3 (by omega) hld h2 h3 (by rw [hA]; exact fun y hy => hp y bl br hy)
    · have e' : ¬ (x3 - x2) + 1 < 8 := fun z => absurd ((bs_lt g bs_c8).mp z) (by omega)
      refine br_f e' ?_
      obtain ⟨d, rfl⟩ : ∃ d', d = d' + 8 := ⟨d - 8, by omega⟩
      have er' : r + 1 = l + (d + 8) := by omega
      have h3' : x3.toInt = (l : Int) + d + 7 := by omega
      have hJ : ∀ bl' br' : Nat → Int32, bs_H p (wX_split_17 post p f) bl' br' (d + 8) (bs_F p (d + 8) l c) := by
        intro bl' br' d' l' r' c' y2 y3 y4 y5 y6 y7 k1 k2 k3 k4 k5 k6 k7 k8 k9
        exact ih d' l' r' c' bl' br' y2 y3 y4 y5 y6 y7 (by omega) k2 k3 k4 k5 k6 k7 k8 (k9.trans hA)
      by_cases z : x4 = 0
      · subst z
        refine br_t rfl ⟨5, ?_⟩
        exact bs_X38 h2 (by omega) (fun n x4 bl' h4 hn hP => bs_X83 (hJ bl') hld er' h2 h3' ⟨n, 0, h4, bs_c0, by omega, hP⟩ hR hfit) 5 0 0 0 0 bl (by omega) (by omega) (by omega) bs_c0 bs_c0 bs_P_0
      · exact br_f z (bs_X83 (hJ bl) hld er' h2 h3' (hL.resolve_left z) hR hfit)
end
section
/-- the cells are the same, and each is a short -/
def i_Rel (_ : Nat) (u : SX) (v : SY) : Prop := u.1 = v ∧ bs_fit v
theorem i_up {k : Nat} {u : SX} {v : SY} (h : i_Rel k u v) : i_Rel (k + 3) u v := h
theorem bs_n0 : vp_nar .short (0 : Int32) = 0 := by rw [vp_nar_short]; decide
theorem i_vc0 : wpX_init (fun u => wpY_init (fun v => i_Rel 0 u v)) := ⟨rfl, fun _ => bs_n0⟩
theorem bs_vs (z : Int32) : vp_nar .short z.toInt16.toInt32 = z.toInt16.toInt32 := by rw [vp_nar_short]; simp
theorem bs_fitU {c : Nat → Int32} (hc : bs_fit c) (k : Nat) (z : Int32) : bs_fit (upd c k (vp_nar .short z.toInt16.toInt32)) := by
  intro i
  by_cases e : i = k
  · subst e
    rw [bs_us, bs_vs, bs_vs]
  · rw [bs_un e]
    exact hc i
theorem bs_i15 {x : Int32} (h0 : ¬ x < 0) (h : x ≤ 15) : vp_in x 16 := by
  obtain ⟨j, hj, rfl⟩ := nI_of2 (n := 15) bs_c15 h0 h
  exact vp_in_nI (by omega) (by omega)
theorem i_vc_put {k : Nat} {u : SX} {v : SY} (I : i_Rel k u v) (hk : k + 3 ≤ 1536) (v1 : Int32) (v2 : Int32) : wpX_put (fun r u' => wpY_put (fun r' v' => r' = r ∧ i_Rel (k + 3) u' v') v v1 v2) u v1 v2 := by
  obtain ⟨c, bl, br⟩ := u
  obtain ⟨e, hc⟩ := I
  have e' : c = v := e
  subst e'
  by_cases h0 : v1 < 0
  · exact br_t h0 (br_t h0 ⟨rfl, rfl, hc⟩)
  · by_cases h15 : v1 ≤ 15
    · have hi : vp_in v1 16 := bs_i15 h0 h15
      refine br_f h0 (br_t h15 ⟨hi, nm_e ⟨hi, br_f h0 (br_t h15 ⟨hi, nm_e ⟨?_, rfl, bs_fitU hc _ _⟩⟩)⟩⟩)
      rw [bs_us, bs_vs]
    · exact br_f h0 (br_f h15 (br_f h0 (br_f h15 ⟨rfl, rfl, hc⟩)))
theorem i_vc_at {k : Nat} {u : SX} {v : SY} (I : i_Rel k u v) (hk : k + 3 ≤ 1536) (v1 : Int32) : wpX_at (fun r => wpY_at (fun r' => r' = r ∧ i_Rel (k + 3) u v) v v1) u v1 := by
  obtain ⟨c, bl, br⟩ := u
  obtain ⟨e, hc⟩ := I
  have e' : c = v := e
  subst e'
  by_cases h0 : v1 < 0
  · exact br_t h0 (br_t h0 ⟨rfl, rfl, hc⟩)
  · by_cases h15 : v1 ≤ 15
    · have hi : vp_in v1 16 := bs_i15 h0 h15
      exact br_f h0 (br_t h15 ⟨hi, br_f h0 (br_t h15 ⟨hi, rfl, rfl, hc⟩)⟩)
    · exact br_f h0 (br_f h15 (br_f h0 (br_f h15 ⟨rfl, rfl, hc⟩)))
theorem i_vc_split {k : Nat} {u : SX} {v : SY} (I : i_Rel k u v) (hk : k + 3 ≤ 1536) (v1 : Int32) : wpX_split (fun r u' => wpY_split (fun r' v' => r' = r ∧ i_Rel (k + 3) u' v') v v1) u v1 := by
  obtain ⟨c, bl, br⟩ := u
  obtain ⟨e, hc⟩ := I
  have e' : c = v := e
  subst e'
  refine ⟨17, bs_X17 (A := bs_F v1 16 0 c) (fun y bl' br' hy => ⟨17, ?_⟩) 17 16 0 15 c bl br 0 15 0 0 0 0 (by omega) (by omega) (by omega) bs_c0 bs_c15 (Or.inl rfl) (Or.inl rfl) hc rfl⟩
  exact bs_Y 17 16 0 c 0 15 (by omega) (by omega) bs_c0 bs_c15 (fun y' hy' => ⟨Int32.toInt_inj.mp (hy'.trans hy.symm), rfl, bs_F_fit 17 16 0 c (by omega) hc⟩)
end
