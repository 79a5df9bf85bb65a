section
/-! rows pk_* here are the kit's rows to paste -/
theorem pk_us {f : Nat → Int32} {k : Nat} {x : Int32} : upd f k x k = x := if_pos rfl
theorem pk_un {f : Nat → Int32} {k j : Nat} {x : Int32} (h : j ≠ k) : upd f k x j = f j := if_neg h
theorem pk_sub {a b : Nat} (h : b ≤ a) : nI a - nI b = nI (a - b) := by
  obtain ⟨c, rfl⟩ : ∃ c, a = c + b := ⟨a - b, by omega⟩
  rw [← nI_add, Int32.add_sub_cancel, Nat.add_sub_cancel]
theorem pk_m1 (n : Nat) : nI (n + 1) + (-1) = nI n := by
  rw [← nI_1, Int32.add_assoc, show (1 : Int32) + (-1) = 0 from rfl, Int32.add_zero]
theorem pk_sub_toInt {a b : Nat} (ha : a < 2 ^ 30) (hb : b < 2 ^ 30) : (nI a - nI b).toInt = (a : Int) - b := by
  rw [Int32.toInt_sub, nI_toInt (by omega), nI_toInt (by omega)]
  exact Int.bmod_eq_of_le (by omega) (by omega)
theorem pk_sneg {a b : Nat} (hb : b < 2 ^ 30) (h : a < b) : nI a - nI b < 0 := by
  rw [Int32.lt_iff_toInt_lt, pk_sub_toInt (by omega) hb, show (0 : Int32).toInt = 0 from by decide]
  omega

/-! the mathematics of the strong good-suffix table: p the pattern, n its length -/
/-- the suffix that begins at j stands at i too -/
def gs_M (p : Nat → Int32) (n i j : Nat) : Prop := ∀ t, j + t < n → p (i + t) = p (j + t)
/-- j is the least begin of a border of the suffix at i (n + 1 for i = n) -/
def gs_B (p : Nat → Int32) (n i j : Nat) : Prop := i < j ∧ j ≤ n + 1 ∧ gs_M p n i j ∧ ∀ q, i < q → q < j → ¬ gs_M p n i q
/-- the suffix at j stands at i with another symbol ahead of it -/
def gs_D (p : Nat → Int32) (n i j : Nat) : Prop := i < j ∧ gs_M p n i j ∧ p (i - 1) ≠ p (j - 1)
/-- x is the first phase's entry for j when all i > lo have been looked at -/
def gs_S (p : Nat → Int32) (n lo j : Nat) (x : Int32) : Prop := (x = 0 ∧ ∀ i, lo < i → ¬ gs_D p n i j) ∨ (∃ i, lo < i ∧ gs_D p n i j ∧ (∀ q, i < q → ¬ gs_D p n q j) ∧ x = nI (j - i))
/-- the reference's test -/
def gs_F (p : Nat → Int32) (n j s : Nat) : Prop := (s + 1 ≤ j → p (j - 1 - s) ≠ p (j - 1)) ∧ ∀ k, j ≤ k → k < n → s ≤ k → p (k - s) = p k
/-- s is the reference's answer for j -/
def gs_G (p : Nat → Int32) (n j s : Nat) : Prop := 1 ≤ s ∧ gs_F p n j s ∧ ∀ q, 1 ≤ q → q < s → ¬ gs_F p n j q

theorem gs_Mn (p : Nat → Int32) (n i : Nat) : gs_M p n i n := fun t h => absurd h (by omega)
theorem gs_Mt {p : Nat → Int32} {n i j k : Nat} (h : gs_M p n i j) (g : gs_M p n j k) (l : j ≤ k) : gs_M p n i k :=
  fun t ht => (h t (by omega)).trans (g t ht)
theorem gs_Mc {p : Nat → Int32} {n i j k : Nat} (h : gs_M p n i j) (g : gs_M p n i k) (l : j ≤ k) : gs_M p n j k :=
  fun t ht => (h t (by omega)).symm.trans (g t ht)
theorem gs_Ms {p : Nat → Int32} {n i j : Nat} (h : gs_M p n (i + 1) (j + 1)) (e : p i = p j) : gs_M p n i j := by
  intro t ht
  cases t with
  | zero => exact e
  | succ t =>
    have := h t (by omega)
    rw [show i + (t + 1) = i + 1 + t from by omega, show j + (t + 1) = j + 1 + t from by omega]
    exact this
theorem gs_Mu {p : Nat → Int32} {n i j : Nat} (h : gs_M p n i j) : gs_M p n (i + 1) (j + 1) := by
  intro t ht
  have := h (t + 1) (by omega)
  rw [show i + 1 + t = i + (t + 1) from by omega, show j + 1 + t = j + (t + 1) from by omega]
  exact this
theorem gs_M0 {p : Nat → Int32} {n i j : Nat} (h : gs_M p n i j) (l : j < n) : p i = p j := h 0 l

theorem gs_Sd {p : Nat → Int32} {n i j : Nat} {x : Int32} (h : gs_S p n (i + 1) j x) (d : ¬ gs_D p n (i + 1) j) : gs_S p n i j x := by
  rcases h with ⟨hx, h⟩ | ⟨q, hq, h⟩
  · refine Or.inl ⟨hx, fun q hq => ?_⟩
    by_cases e : q = i + 1
    · rw [e]; exact d
    · exact h q (by omega)
  · exact Or.inr ⟨q, by omega, h⟩
theorem gs_Sn {p : Nat → Int32} {n i j : Nat} {x : Int32} (h : gs_S p n (i + 1) j x) (d : ¬ x = 0) : gs_S p n i j x := by
  rcases h with ⟨hx, h⟩ | ⟨q, hq, h⟩
  · exact absurd hx d
  · exact Or.inr ⟨q, by omega, h⟩
theorem gs_Sz {p : Nat → Int32} {n i j : Nat} {x : Int32} (h : gs_S p n i j x) (hj : j ≤ 8) (e : x = 0) : ∀ q, i < q → ¬ gs_D p n q j := by
  rcases h with ⟨hx, h⟩ | ⟨q, hq, d, h, ex⟩
  · exact h
  · have l := d.1
    exact absurd (ex.symm.trans e) (nI_ne0 (by omega) (by omega))
theorem gs_Sw {p : Nat → Int32} {n i j : Nat} {x : Int32} (h : gs_S p n (i + 1) j x) (hj : j ≤ 8) (e : x = 0) (d : gs_D p n (i + 1) j) : gs_S p n i j (nI (j - (i + 1))) :=
  Or.inr ⟨i + 1, by omega, d, gs_Sz h hj e, rfl⟩
theorem gs_Sx {p : Nat → Int32} {n i j k : Nat} {x : Int32} (h : gs_S p n (i + 1) k x) (m : gs_M p n (i + 1) j) (e : p i = p (j - 1)) (l1 : i + 1 < j) (l2 : j < k) : gs_S p n i k x := by
  by_cases d : gs_D p n (i + 1) k
  · have d2 : gs_D p n j k := ⟨l2, gs_Mc m d.2.1 (by omega), fun z => d.2.2 (e.trans z)⟩
    rcases h with ⟨hx, h⟩ | ⟨q, hq, h⟩
    · exact absurd d2 (h j l1)
    · exact Or.inr ⟨q, by omega, h⟩
  · exact gs_Sd h d

/-- the border table from i on -/
def gs_T (p : Nat → Int32) (n i : Nat) (bp : Nat → Int32) : Prop := ∀ q, i ≤ q → q ≤ n → ∃ r, gs_B p n q r ∧ bp q = nI r
/-- the outer loop's invariant -/
def gs_O (p : Nat → Int32) (n i j : Nat) (bp sh : Nat → Int32) : Prop := gs_B p n i j ∧ gs_T p n i bp ∧ ∀ q, q ≤ n → gs_S p n i q (sh q)
/-- the inner loop's invariant, its i being i + 1 -/
def gs_I (p : Nat → Int32) (n i j : Nat) (bp sh : Nat → Int32) : Prop :=
  (i + 1 < j ∧ j ≤ n + 1) ∧ gs_M p n (i + 1) j ∧ (∀ q, i + 1 < q → q < j → gs_M p n (i + 1) q → p i ≠ p (q - 1)) ∧ gs_T p n (i + 1) bp ∧
  (∀ q, q ≤ n → q < j → gs_S p n i q (sh q)) ∧ (∀ q, q ≤ n → j ≤ q → gs_S p n (i + 1) q (sh q))

theorem gs_OI {p : Nat → Int32} {n i j : Nat} {bp sh : Nat → Int32} (h : gs_O p n (i + 1) j bp sh) : gs_I p n i j bp sh := by
  obtain ⟨⟨b1, b2, b3, b4⟩, t, s⟩ := h
  refine ⟨⟨b1, b2⟩, b3, fun q h1 h2 m => absurd m (b4 q h1 h2), t, fun q h1 h2 => ?_, fun q h1 _ => s q h1⟩
  exact gs_Sd (s q h1) (fun d => b4 q d.1 h2 d.2.1)
theorem gs_IX {p : Nat → Int32} {n i j : Nat} {bp sh : Nat → Int32} (h : gs_I p n i j bp sh) (c : n < j ∨ p i = p (j - 1)) : gs_O p n i (j - 1) (upd bp i (nI (j - 1))) sh := by
  obtain ⟨⟨l1, l2⟩, m, f, t, s1, s2⟩ := h
  have hB : gs_B p n i (j - 1) := by
    refine ⟨by omega, by omega, ?_, fun q h1 h2 mq => ?_⟩
    · by_cases e : j - 1 = n
      · rw [e]; exact gs_Mn p n i
      · rcases c with c | c
        · exact absurd c (by omega)
        · refine gs_Ms ?_ c
          rw [show j - 1 + 1 = j from by omega]; exact m
    · exact f (q + 1) (by omega) (by omega) (gs_Mu mq) (gs_M0 mq (by omega))
  refine ⟨hB, fun q h1 h2 => ?_, fun q h1 => ?_⟩
  · by_cases e : q = i
    · subst e
      exact ⟨j - 1, hB, pk_us⟩
    · rw [pk_un e]
      exact t q (by omega) h2
  · by_cases e : q < j
    · exact s1 q h1 e
    · have c' : p i = p (j - 1) := by
        rcases c with c | c
        · exact absurd c (by omega)
        · exact c
      by_cases e2 : q = j
      · subst e2
        exact gs_Sd (s2 q h1 (by omega)) (fun d => d.2.2 c')
      · exact gs_Sx (s2 q h1 (by omega)) m c' l1 (by omega)
theorem gs_IS {p : Nat → Int32} {n i j : Nat} {bp sh sh' : Nat → Int32} (h : gs_I p n i j bp sh) (hj : j ≤ n) (hp : p i ≠ p (j - 1)) (hk : ∀ q, q ≠ j → sh' q = sh q) (hs : gs_S p n i j (sh' j)) : ∃ r, bp j = nI r ∧ j < r ∧ r ≤ n + 1 ∧ gs_I p n i r bp sh' := by
  obtain ⟨⟨l1, l2⟩, m, f, t, s1, s2⟩ := h
  obtain ⟨r, ⟨r1, r2, r3, r4⟩, er⟩ := t j (by omega) hj
  refine ⟨r, er, r1, r2, ⟨by omega, r2⟩, gs_Mt m r3 (by omega), fun q h1 h2 mq => ?_, t, fun q h1 h2 => ?_, fun q h1 h2 => ?_⟩
  · by_cases e : q < j
    · exact f q h1 e mq
    · by_cases e2 : q = j
      · rw [e2]; exact hp
      · exact absurd (gs_Mc m mq (by omega)) (r4 q (by omega) h2)
  · by_cases e2 : q = j
    · rw [e2]; exact hs
    · rw [hk q e2]
      by_cases e : q < j
      · exact s1 q h1 e
      · exact gs_Sd (s2 q h1 (by omega)) (fun d => r4 q (by omega) h2 (gs_Mc m d.2.1 (by omega)))
  · rw [hk q (by omega)]
    exact s2 q h1 (by omega)

theorem gs_FD {p : Nat → Int32} {n j s : Nat} (h : gs_F p n j s) (h1 : 1 ≤ s) (h2 : s < j) : gs_D p n (j - s) j := by
  refine ⟨by omega, fun t ht => ?_, ?_⟩
  · have := h.2 (j + t) (by omega) ht (by omega)
    rw [show j - s + t = j + t - s from by omega]
    exact this
  · rw [show j - s - 1 = j - 1 - s from by omega]
    exact h.1 (by omega)
theorem gs_DF {p : Nat → Int32} {n i j : Nat} (h : gs_D p n i j) (h1 : 1 ≤ i) : gs_F p n j (j - i) := by
  obtain ⟨l, m, ne⟩ := h
  refine ⟨fun _ => ?_, fun k a b c => ?_⟩
  · rw [show j - 1 - (j - i) = i - 1 from by omega]
    exact ne
  · have := m (k - j) (by omega)
    rw [show i + (k - j) = k - (j - i) from by omega, show j + (k - j) = k from by omega] at this
    exact this
theorem gs_G1 {p : Nat → Int32} {n j : Nat} {x : Int32} (h : gs_S p n 0 j x) (hj : j ≤ n) (hx : ¬ x = 0) : ∃ s, s ≤ n + 1 ∧ x = nI s ∧ gs_G p n j s := by
  rcases h with ⟨e, _⟩ | ⟨i, hi, d, hm, e⟩
  · exact absurd e hx
  · have l := d.1
    refine ⟨j - i, by omega, e, by omega, gs_DF d (by omega), fun q h1 h2 f => ?_⟩
    exact hm (j - q) (by omega) (gs_FD f h1 (by omega))
theorem gs_G0 {p : Nat → Int32} {n i j : Nat} (h : ∀ q, 0 < q → ¬ gs_D p n q i) (h1 : 1 ≤ j) (h2 : i ≤ j) (m : gs_M p n 0 j) (f : ∀ q, 1 ≤ q → i ≤ q → q < j → ¬ gs_M p n 0 q) : gs_G p n i j := by
  refine ⟨h1, ⟨fun l => absurd l (by omega), fun k a b c => ?_⟩, fun q a b g => ?_⟩
  · have := m (k - j) (by omega)
    rw [show 0 + (k - j) = k - j from by omega, show j + (k - j) = k from by omega] at this
    exact this
  · by_cases e : q < i
    · exact h (i - q) (by omega) (gs_FD g a e)
    · refine f q a (by omega) b (fun t ht => ?_)
      have := g.2 (q + t) (by omega) ht (by omega)
      rw [show 0 + t = q + t - q from by omega]
      exact this

/-- the last loop's invariant -/
def gs_P (p : Nat → Int32) (n i j : Nat) (bp sh : Nat → Int32) : Prop :=
  (1 ≤ j ∧ i ≤ j ∧ j ≤ n + 1) ∧ gs_M p n 0 j ∧ (∀ q, 1 ≤ q → i ≤ q → q < j → ¬ gs_M p n 0 q) ∧ gs_T p n 0 bp ∧
  (∀ q, q < i → q ≤ n → ∃ s, s ≤ n + 1 ∧ sh q = nI s ∧ gs_G p n q s) ∧ (∀ q, i ≤ q → q ≤ n → gs_S p n 0 q (sh q))
theorem gs_OP {p : Nat → Int32} {n j : Nat} {bp sh : Nat → Int32} (h : gs_O p n 0 j bp sh) : ∃ r, bp 0 = nI r ∧ gs_P p n 0 r bp sh := by
  obtain ⟨_, t, s⟩ := h
  obtain ⟨r, ⟨r1, r2, r3, r4⟩, er⟩ := t 0 (by omega) (by omega)
  exact ⟨r, er, ⟨by omega, by omega, r2⟩, r3, fun q h1 _ h3 => r4 q (by omega) h3, t, fun q h1 _ => absurd h1 (by omega), fun q _ h2 => s q h2⟩
theorem gs_PV {p : Nat → Int32} {n i j : Nat} {bp sh sh' : Nat → Int32} (h : gs_P p n i j bp sh) (hi : i ≤ n) (hn : n ≤ 8) (hk : ∀ q, q ≠ i → sh' q = sh q) (hz : sh i = 0 → sh' i = nI j) (hnz : ¬ sh i = 0 → sh' i = sh i) : (∀ q, q < i + 1 → q ≤ n → ∃ s, s ≤ n + 1 ∧ sh' q = nI s ∧ gs_G p n q s) ∧ (∀ q, i + 1 ≤ q → q ≤ n → gs_S p n 0 q (sh' q)) := by
  obtain ⟨⟨l1, l2, l3⟩, m, f, t, s1, s2⟩ := h
  refine ⟨fun q h1 h2 => ?_, fun q h1 h2 => ?_⟩
  · by_cases e : q = i
    · subst e
      by_cases z : sh q = 0
      · exact ⟨j, l3, hz z, gs_G0 (gs_Sz (s2 q (by omega) hi) (by omega) z) l1 l2 m f⟩
      · rw [hnz z]
        exact gs_G1 (s2 q (by omega) hi) hi z
    · rw [hk q e]
      exact s1 q (by omega) h2
  · rw [hk q (by omega)]
    exact s2 q (by omega) h2
theorem gs_PE {p : Nat → Int32} {n i j : Nat} {bp sh sh' : Nat → Int32} (h : gs_P p n i j bp sh) (hi : i ≤ n) (hn : n ≤ 8) (hk : ∀ q, q ≠ i → sh' q = sh q) (hz : sh i = 0 → sh' i = nI j) (hnz : ¬ sh i = 0 → sh' i = sh i) (e : i = j) : ∃ r, bp j = nI r ∧ gs_P p n (i + 1) r bp sh' := by
  have v := gs_PV h hi hn hk hz hnz
  obtain ⟨⟨l1, l2, l3⟩, m, f, t, s1, s2⟩ := h
  subst e
  obtain ⟨r, ⟨r1, r2, r3, r4⟩, er⟩ := t i (by omega) hi
  exact ⟨r, er, ⟨by omega, by omega, r2⟩, gs_Mt m r3 (by omega), fun q _ h2 h3 mq => r4 q (by omega) h3 (gs_Mc m mq (by omega)), t, v⟩
theorem gs_PN {p : Nat → Int32} {n i j : Nat} {bp sh sh' : Nat → Int32} (h : gs_P p n i j bp sh) (hi : i ≤ n) (hn : n ≤ 8) (hk : ∀ q, q ≠ i → sh' q = sh q) (hz : sh i = 0 → sh' i = nI j) (hnz : ¬ sh i = 0 → sh' i = sh i) (e : i ≠ j) : gs_P p n (i + 1) j bp sh' := by
  have v := gs_PV h hi hn hk hz hnz
  obtain ⟨⟨l1, l2, l3⟩, m, f, t, s1, s2⟩ := h
  exact ⟨⟨l1, by omega, l3⟩, m, fun q h1 h2 h3 => f q h1 (by omega) h3, t, v⟩
end
section
/-! the reference's walk -/
theorem gs_neg : ∀ j, j < 9 → ∀ s, s < 11 → (nI j - 1 - nI s < 0 ↔ j < s + 1) := by decide +kernel
theorem gy_33 {p : Nat → Int32} {b : Int32} {n s : Nat} {post : Int32 → Prop} (hn : n ≤ 8) (hs : s ≤ 10) : ∀ d k, k + d = n → ((∀ q, k ≤ q → q < n → s ≤ q → p (q - s) = p q) → post 1) → (¬ (∀ q, k ≤ q → q < n → s ≤ q → p (q - s) = p q) → post 0) → wY_fits_33 post (nI s) (nI n) b p (d + 1) (nI k) := by
  intro d
  induction d with
  | zero =>
    intro k hk h1 h0
    exact br_t (nI_le (by omega) (by omega)) (h1 fun q a c => absurd c (by omega))
  | succ d ih =>
    intro k hk h1 h0
    refine br_f (nI_ge (by omega) (by omega)) ?_
    by_cases l : k < s
    · refine br_t (pk_sneg (by omega) l) (nm_r (nI_1 k) (ih (k + 1) (by omega) (fun h => h1 fun q a c e => h q (by omega) c e) (fun h => h0 fun g => h fun q a c e => g q (by omega) c e)))
    · have e : nI k - nI s = nI (k - s) := pk_sub (by omega)
      rw [e, nI_clamp (by omega), nI_clamp (by omega)]
      refine br_f (nI_pos (by omega)) ⟨vp_in_nI (by omega) (by omega), vp_in_nI (by omega) (by omega), ?_⟩
      by_cases c : p (k - s) = p k
      · refine br_t c (nm_r (nI_1 k) (ih (k + 1) (by omega) (fun h => h1 fun q a a' a'' => ?_) (fun h => h0 fun g => h fun q a c e => g q (by omega) c e)))
        by_cases e : q = k
        · rw [e]; exact c
        · exact h q (by omega) a' a''
      · exact br_f c (h0 fun g => c (g k (by omega) (by omega) (by omega)))
theorem gy_fits {p : Nat → Int32} {b : Int32} {n j s : Nat} {post : Int32 → Prop} (hn : n ≤ 8) (hj : j ≤ n) (hs : s ≤ 10) (h1 : gs_F p n j s → post 1) (h0 : ¬ gs_F p n j s → post 0) : wpY_fits post (nI n, b, p) (nI j) (nI s) := by
  unfold wpY_fits
  dsimp only
  by_cases l : j < s + 1
  · exact br_t ((gs_neg j (by omega) s (by omega)).mpr l) ⟨n - j + 1, gy_33 hn hs (n - j) j (by omega) (fun h => h1 ⟨fun z => absurd z (by omega), h⟩) (fun h => h0 fun g => h g.2)⟩
  · obtain ⟨i, rfl⟩ : ∃ i, j = i + 1 := ⟨j - 1, by omega⟩
    have e1 : nI (i + 1) - 1 = nI i := nI_pred i
    have e : nI i - nI s = nI (i - s) := pk_sub (by omega)
    refine br_f (fun z => l ((gs_neg (i + 1) (by omega) s (by omega)).mp z)) ?_
    rw [e1, e, nI_clamp (by omega), nI_clamp (by omega)]
    refine ⟨vp_in_nI (by omega) (by omega), vp_in_nI (by omega) (by omega), ?_⟩
    by_cases c : p (i - s) = p i
    · exact br_t c (h0 fun g => g.1 (by omega) c)
    · exact br_f c ⟨n - (i + 1) + 1, gy_33 hn hs (n - (i + 1)) (i + 1) (by omega) (fun h => h1 ⟨fun _ => c, h⟩) (fun h => h0 fun g => h g.2)⟩
theorem gy_26 {p : Nat → Int32} {b : Int32} {n j s : Nat} {post : Int32 → Prop} (hn : n ≤ 8) (hj : j ≤ n) (hs : s ≤ 9) (g : gs_G p n j s) (h : post (nI s)) : ∀ d q, q + d = s → 1 ≤ q → wY_shiftAt_26 post (nI j) (nI n) b p (d + 1) (nI q) := by
  intro d
  induction d with
  | zero =>
    intro q hq h1
    obtain rfl : q = s := by omega
    rw [wY_shiftAt_26]
    exact gy_fits hn hj (by omega) (fun _ => br_f (by decide) h) (fun f => absurd g.2.1 f)
  | succ d ih =>
    intro q hq h1
    rw [wY_shiftAt_26]
    exact gy_fits hn hj (by omega) (fun f => absurd f (g.2.2 q h1 (by omega))) (fun _ => br_t rfl (nm_r (nI_1 q) (ih (q + 1) (by omega) (by omega))))
theorem gy_at {p : Nat → Int32} {b : Int32} {n j s : Nat} {post : Int32 → Prop} (hn : n ≤ 8) (hj : j ≤ n) (hs : s ≤ 9) (hb : ¬ b = 0) (g : gs_G p n j s) (h : post (nI s)) : wpY_shiftAt post (nI n, b, p) (nI j) := by
  have g1 := g.1
  unfold wpY_shiftAt
  dsimp only
  exact br_f hb (br_f (nI_pos (by omega)) (br_t (nI_le hj (by omega)) ⟨s - 1 + 1, gy_26 hn hj hs g h (s - 1) 1 (by omega) (by omega)⟩))
end
section
/-! the component's build -/
theorem gs_nar {x : Nat} (h : x < 32768) : vp_nar .short (nI x).toInt16.toInt32 = nI x := by
  have e := nI_toInt (n := x) (by omega)
  rw [vp_nar_short, lg_i2s_small (v := nI x) (by omega) (by omega), lg_i2s_small (v := nI x) (by omega) (by omega)]
theorem gs_nar0 : vp_nar .short 0 = 0 := by rw [vp_nar_short]; decide
/-- the answer that the table gives -/
def gs_A (p : Nat → Int32) (n : Nat) (sh : Nat → Int32) : Prop := ∀ q, q ≤ n → ∃ s, s ≤ n + 1 ∧ sh q = nI s ∧ gs_G p n q s
theorem gx_173 {post : Int32 → SX → Prop} {J148 : Int32 → Int32 → (Nat → Int32) → (Nat → Int32) → (Nat → Int32) → Prop} {fn b : Int32} {p bp sh : Nat → Int32} {i j : Nat} (hi : i ≤ 8) (hj : j ≤ 9) (he : i = j → ∃ r, bp j = nI r ∧ J148 (nI (i + 1)) (nI r) p bp sh) (hn : i ≠ j → J148 (nI (i + 1)) (nI j) p bp sh) : wX_build_173 post J148 (nI i) (nI j) fn b p bp sh := by
  unfold wX_build_173
  by_cases e : i = j
  · obtain ⟨r, er, h⟩ := he e
    refine br_t ((nI_eq (by omega) (by omega)).mpr e) ⟨vp_in_nI (by omega) (by omega), nm_r (e' := nI r) ?_ (nm_r (nI_1 i) h)⟩
    rw [nI_clamp (by omega)]
    exact er
  · exact br_f (fun z => e ((nI_eq (by omega) (by omega)).mp z)) (nm_r (nI_1 i) (hn e))
theorem gx_148 {post : Int32 → SX → Prop} {b : Int32} {p bp : Nat → Int32} {n : Nat} (hn : n ≤ 8) (J : ∀ sh, gs_A p n sh → post (sh 0) (nI n, 1, p, bp, sh)) : ∀ d i j sh, i + d = n + 1 → gs_P p n i j bp sh → wX_build_148 post (nI n) b (d + 1) (nI i) (nI j) p bp sh := by
  intro d
  induction d with
  | zero =>
    intro i j sh hi P
    rw [wX_build_148]
    exact br_t (nI_lt (by omega) (by omega)) (J sh fun q hq => P.2.2.2.2.1 q (by omega) hq)
  | succ d ih =>
    intro i j sh hi P
    have l := P.1
    rw [wX_build_148]
    refine br_f (nI_nlt (by omega) (by omega)) ⟨vp_in_nI (by omega) (by omega), ?_⟩
    rw [nI_clamp (by omega)]
    by_cases z : sh i = 0
    · refine br_t z ⟨vp_in_nI (by omega) (by omega), nm_r (e' := upd sh i (nI j)) ?_ ?_⟩
      · rw [gs_nar (by omega)]
      · refine gx_173 (by omega) (by omega) (fun e => ?_) (fun e => ?_)
        · obtain ⟨r, er, P'⟩ := gs_PE (sh' := upd sh i (nI j)) P (by omega) hn (fun q hq => pk_un hq) (fun _ => pk_us) (fun h => absurd z h) e
          exact ⟨r, er, ih (i + 1) r _ (by omega) P'⟩
        · exact ih (i + 1) j _ (by omega) (gs_PN (sh' := upd sh i (nI j)) P (by omega) hn (fun q hq => pk_un hq) (fun _ => pk_us) (fun h => absurd z h) e)
    · refine br_f z ?_
      refine gx_173 (by omega) (by omega) (fun e => ?_) (fun e => ?_)
      · obtain ⟨r, er, P'⟩ := gs_PE (sh' := sh) P (by omega) hn (fun q hq => rfl) (fun h => absurd h z) (fun _ => rfl) e
        exact ⟨r, er, ih (i + 1) r _ (by omega) P'⟩
      · exact ih (i + 1) j _ (by omega) (gs_PN (sh' := sh) P (by omega) hn (fun q hq => rfl) (fun h => absurd h z) (fun _ => rfl) e)
theorem gx_122 {post : Int32 → SX → Prop} {J62 : Int32 → Int32 → (Nat → Int32) → (Nat → Int32) → (Nat → Int32) → Prop} {fn b : Int32} {p bp sh : Nat → Int32} {i j : Nat} (hi : i ≤ 8) (hj : j ≤ 9) (hj1 : 1 ≤ j) (h : J62 (nI i) (nI (j - 1)) p (upd bp i (nI (j - 1))) sh) : wX_build_122 post J62 (nI (i + 1)) (nI j) fn b p bp sh := by
  obtain ⟨m, rfl⟩ : ∃ m, j = m + 1 := ⟨j - 1, by omega⟩
  unfold wX_build_122
  refine nm_r (pk_m1 i) (nm_r (pk_m1 m) ⟨vp_in_nI (by omega) (by omega), nm_r (e' := upd bp i (nI m)) ?_ h⟩)
  rw [nI_clamp (by omega), gs_nar (by omega)]
theorem gx_66 {post : Int32 → SX → Prop} {J62 : Int32 → Int32 → (Nat → Int32) → (Nat → Int32) → (Nat → Int32) → Prop} {b : Int32} {p bp : Nat → Int32} {n i : Nat} (hn : n ≤ 8) (hi : i + 1 ≤ n) (J : ∀ j bp' sh, gs_O p n i j bp' sh → J62 (nI i) (nI j) p bp' sh) : ∀ d j sh, n + 1 ≤ j + d → gs_I p n i j bp sh → wX_build_66 post J62 (nI (i + 1)) (nI n) b (d + 1) (nI j) p bp sh := by
  intro d
  induction d with
  | zero =>
    intro j sh hd I
    have l := I.1
    rw [wX_build_66]
    exact br_t (nI_lt (by omega) (by omega)) (gx_122 (by omega) (by omega) (by omega) (J _ _ _ (gs_IX I (Or.inl (by omega)))))
  | succ d ih =>
    intro j sh hd I
    have l := I.1
    rw [wX_build_66]
    by_cases c : n < j
    · exact br_t (nI_lt c (by omega)) (gx_122 (by omega) (by omega) (by omega) (J _ _ _ (gs_IX I (Or.inl c))))
    · obtain ⟨m, rfl⟩ : ∃ m, j = m + 1 := ⟨j - 1, by omega⟩
      refine br_f (nI_nlt (by omega) (by omega)) ?_
      rw [nI_pred i, nI_pred m, nI_clamp (n := i) (by omega), nI_clamp (n := m) (by omega), nI_clamp (n := m + 1) (by omega)]
      refine ⟨vp_in_nI (by omega) (by omega), vp_in_nI (by omega) (by omega), ?_⟩
      by_cases e : p i = p m
      · exact br_t e (gx_122 (by omega) (by omega) (by omega) (J _ _ _ (gs_IX I (Or.inr e))))
      · refine br_f e ⟨vp_in_nI (by omega) (by omega), ?_⟩
        have s := I.2.2.2.2.2 (m + 1) (by omega) (by omega)
        by_cases z : sh (m + 1) = 0
        · refine br_t z ⟨vp_in_nI (by omega) (by omega), nm_r (e' := upd sh (m + 1) (nI (m + 1 - (i + 1)))) ?_ ⟨vp_in_nI (by omega) (by omega), ?_⟩⟩
          · rw [pk_sub (by omega), gs_nar (by omega)]
          · obtain ⟨r, er, r1, r2, I'⟩ := gs_IS (sh' := upd sh (m + 1) (nI (m + 1 - (i + 1)))) I (by omega) e (fun q hq => pk_un hq) (by rw [pk_us]; exact gs_Sw s (by omega) z ⟨by omega, I.2.1, e⟩)
            exact nm_r er (ih r _ (by omega) I')
        · refine br_f z ⟨vp_in_nI (by omega) (by omega), ?_⟩
          obtain ⟨r, er, r1, r2, I'⟩ := gs_IS (sh' := sh) I (by omega) e (fun q hq => rfl) (gs_Sn s z)
          exact nm_r er (ih r _ (by omega) I')
theorem gx_62 {post : Int32 → SX → Prop} {b : Int32} {p : Nat → Int32} {n : Nat} (hn : n ≤ 8) (J : ∀ bp sh, gs_A p n sh → post (sh 0) (nI n, 1, p, bp, sh)) : ∀ i j bp sh, i ≤ n → gs_O p n i j bp sh → wX_build_62 post (nI n) b (i + 1) (nI i) (nI j) p bp sh := by
  intro i
  induction i with
  | zero =>
    intro j bp sh hi h
    obtain ⟨r, er, P⟩ := gs_OP h
    rw [wX_build_62]
    exact br_t (nI_le (b := 0) (by omega) (by omega)) (nm_r er ⟨n + 1 + 1, gx_148 hn (J bp) (n + 1) 0 r sh (by omega) P⟩)
  | succ i ih =>
    intro j bp sh hi h
    rw [wX_build_62]
    exact br_f (nI_nle (by omega) (by omega)) ⟨n + 1 + 1, gx_66 hn hi (fun j bp' sh h => ih j bp' sh (by omega) h) (n + 1) j sh (by omega) (gs_OI h)⟩
theorem gs_O0 {p bp sh : Nat → Int32} {n : Nat} (hs : ∀ q, q ≤ n → sh q = 0) : gs_O p n n (n + 1) (upd bp n (nI (n + 1))) sh := by
  have hB : gs_B p n n (n + 1) := ⟨by omega, by omega, fun t h => absurd h (by omega), fun q h1 h2 => absurd h1 (by omega)⟩
  refine ⟨hB, fun q h1 h2 => ?_, fun q h => Or.inl ⟨hs q h, fun i hi d => ?_⟩⟩
  · obtain rfl : q = n := by omega
    exact ⟨q + 1, hB, pk_us⟩
  · have l := d.1
    omega
theorem gx_23 {post : Int32 → SX → Prop} {b : Int32} {p sh : Nat → Int32} {n : Nat} (hn : n ≤ 8) (hs : ∀ q, q ≤ n → sh q = 0) (J : ∀ bp sh, gs_A p n sh → post (sh 0) (nI n, 1, p, bp, sh)) : ∀ d k bp, k + d = 10 → wX_build_23 post (nI n) b (d + 1) (nI k) p bp sh := by
  intro d
  induction d with
  | zero =>
    intro k bp hk
    rw [wX_build_23]
    refine br_t (nI_le (a := 10) (by omega) (by omega)) (nm_r (nI_1 n) ⟨vp_in_nI (by omega) (by omega), nm_r (e' := upd bp n (nI (n + 1))) ?_ ⟨n + 1, gx_62 hn J n (n + 1) _ sh (by omega) (gs_O0 hs)⟩⟩)
    rw [nI_clamp (by omega), gs_nar (by omega)]
  | succ d ih =>
    intro k bp hk
    rw [wX_build_23]
    exact br_f (nI_ge (b := 10) (by omega) (by omega)) ⟨vp_in_nI (by omega) (by omega), nm_e (nm_r (nI_1 k) (ih (k + 1) _ (by omega)))⟩
theorem gx_2 {post : Int32 → SX → Prop} {b : Int32} {p bp : Nat → Int32} {n : Nat} (hn : n ≤ 8) (J : ∀ bp sh, gs_A p n sh → post (sh 0) (nI n, 1, p, bp, sh)) : ∀ d k sh, k + d = 9 → (∀ q, q < k → sh q = 0) → wX_build_2 post (nI n) b (d + 1) (nI k) p bp sh := by
  intro d
  induction d with
  | zero =>
    intro k sh hk hs
    rw [wX_build_2]
    exact br_t (nI_le (a := 9) (by omega) (by omega)) ⟨10 + 1, gx_23 hn (fun q hq => hs q (by omega)) J 10 0 bp (by omega)⟩
  | succ d ih =>
    intro k sh hk hs
    rw [wX_build_2]
    refine br_f (nI_ge (b := 9) (by omega) (by omega)) ⟨vp_in_nI (by omega) (by omega), nm_r (e' := upd sh k 0) ?_ (nm_r (nI_1 k) (ih (k + 1) _ (by omega) fun q hq => ?_))⟩
    · rw [nI_clamp (by omega), gs_nar0]
    · by_cases e : q = k
      · rw [e]; exact pk_us
      · rw [pk_un e]; exact hs q (by omega)
theorem gx_build {post : Int32 → SX → Prop} {b : Int32} {p bp sh : Nat → Int32} {n : Nat} (hn : n ≤ 8) (J : ∀ bp sh, gs_A p n sh → post (sh 0) (nI n, 1, p, bp, sh)) : wpX_build post (nI n, b, p, bp, sh) :=
  ⟨9 + 1, gx_2 hn J 9 0 sh (by omega) fun q h => absurd h (by omega)⟩
end
section
/-- the same pattern and length; where a table is built, it holds the reference's answers -/
def i_Rel (_ : Nat) (u : SX) (v : SY) : Prop := ∃ (n : Nat) (b : Int32) (p bp sh : Nat → Int32), u = (nI n, b, p, bp, sh) ∧ v = (nI n, b, p) ∧ n ≤ 8 ∧ (b = 0 ∨ (b = 1 ∧ gs_A p n sh))
theorem i_up {k : Nat} {u : SX} {v : SY} (h : i_Rel k u v) : i_Rel (k + 2) u v := h
theorem i_vc0 : wpX_init (fun u => wpY_init (fun v => i_Rel 0 u v)) :=
  ⟨0, 0, _, _, _, rfl, rfl, by omega, Or.inl rfl⟩
theorem gs_8 : nI 8 = 8 := by decide +kernel
theorem i_vc_load {k : Nat} {u : SX} {v : SY} (I : i_Rel k u v) (hk : k + 2 ≤ 1024) (v1 : Int32) : wpX_load (fun r u' => wpY_load (fun r' v' => r' = r ∧ i_Rel (k + 2) u' v') v v1) u v1 := by
  obtain ⟨n, b, p, bp, sh, rfl, rfl, hn, h⟩ := I
  unfold wpX_load wpY_load
  dsimp only
  by_cases e : n = 8
  · subst e
    refine br_t gs_8 (br_f (nI_nlt (b := 8) (by omega) (by omega)) ⟨rfl, ?_⟩)
    exact ⟨8, b, p, bp, sh, rfl, rfl, by omega, h⟩
  · have hi : vp_in (nI n) 8 := vp_in_nI (by omega) (by omega)
    refine br_f (fun z => e ((nI_eq (b := 8) (by omega) (by omega)).mp z)) ⟨hi, nm_e (nm_r (nI_1 n) (br_t (nI_lt (b := 8) (by omega) (by omega)) (nm_r (nI_1 n) ⟨hi, nm_e ⟨rfl, ?_⟩⟩)))⟩
    exact ⟨n + 1, 0, _, bp, sh, rfl, rfl, by omega, Or.inl rfl⟩
theorem i_vc_build {k : Nat} {u : SX} {v : SY} (I : i_Rel k u v) (hk : k + 2 ≤ 1024) : wpX_build (fun r u' => wpY_build (fun r' v' => r' = r ∧ i_Rel (k + 2) u' v') v) u := by
  obtain ⟨n, b, p, bp, sh, rfl, rfl, hn, h⟩ := I
  refine gx_build hn fun bp' sh' A => ?_
  obtain ⟨s, hs, es, g⟩ := A 0 (by omega)
  unfold wpY_build
  dsimp only
  exact gy_at (j := 0) hn (by omega) (by omega) (by decide) g ⟨es.symm, n, 1, p, bp', sh', rfl, rfl, hn, Or.inr ⟨rfl, A⟩⟩
theorem i_vc_shiftAt {k : Nat} {u : SX} {v : SY} (I : i_Rel k u v) (hk : k + 2 ≤ 1024) (v1 : Int32) : wpX_shiftAt (fun r => wpY_shiftAt (fun r' => r' = r ∧ i_Rel (k + 2) u v) v v1) u v1 := by
  have I' : i_Rel (k + 2) u v := I
  obtain ⟨n, b, p, bp, sh, rfl, rfl, hn, h⟩ := I
  rcases h with rfl | ⟨rfl, A⟩
  · exact br_t rfl (br_t rfl ⟨rfl, I'⟩)
  · have h1 : ¬ (1 : Int32) = 0 := by decide
    by_cases h0 : v1 < 0
    · exact br_f h1 (br_t h0 (br_f h1 (br_t h0 ⟨rfl, I'⟩)))
    · obtain ⟨j, hj, rfl⟩ := nI_of h0
      by_cases l : j ≤ n
      · obtain ⟨s, hs, es, g⟩ := A j l
        refine br_f h1 (br_f h0 (br_t (nI_le l (by omega)) ⟨vp_in_nI (by omega) (by omega), ?_⟩))
        rw [nI_clamp (by omega)]
        exact gy_at hn l (by omega) h1 g ⟨es.symm, I'⟩
      · have c : ¬ nI j ≤ nI n := nI_ge (by omega) (by omega)
        exact br_f h1 (br_f h0 (br_f c (br_f h1 (br_f h0 (br_f c ⟨rfl, I'⟩)))))
theorem i_vc_length {k : Nat} {u : SX} {v : SY} (I : i_Rel k u v) (hk : k + 2 ≤ 1024) : wpX_length (fun r => wpY_length (fun r' => r' = r ∧ i_Rel (k + 2) u v) v) u := by
  have I' : i_Rel (k + 2) u v := I
  obtain ⟨n, b, p, bp, sh, rfl, rfl, hn, h⟩ := I
  exact ⟨rfl, I'⟩
end
