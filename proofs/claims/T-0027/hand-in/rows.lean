section
/-! rows of kit/rows/PURE-ROWS (pasted): pk_us .. pk_cl -/
theorem pk_us {f : Nat → Int32} {k : Nat} {x : Int32} : upd f k x k = x := if_pos rfl
theorem pk_un {f : Nat → Int32} {k j : Nat} {x : Int32} (h : j ≠ k) : upd f k x j = f j := if_neg h
theorem pk_sub {a b : Nat} (h : b ≤ a) : nI a - nI b = nI (a - b) := by
  obtain ⟨c, rfl⟩ : ∃ c, a = c + b := ⟨a - b, by omega⟩
  rw [← nI_add, Int32.add_sub_cancel, Nat.add_sub_cancel]
theorem pk_m1 (n : Nat) : nI (n + 1) + (-1) = nI n := by
  rw [← nI_1, Int32.add_assoc, show (1 : Int32) + (-1) = 0 from rfl, Int32.add_zero]
theorem pk_mul (a b : Nat) : nI a * nI b = nI (a * b) := (Int32.ofNat_mul a b).symm
theorem pk_le {x y : Int32} {A B : Prop} (a b : Nat) (f : a ≤ b → A) (g : b < a → B) (hx : x = nI a := by rfl) (hy : y = nI b := by rfl) (ha : a < 2 ^ 31 := by omega) (hb : b < 2 ^ 31 := by omega) : (x ≤ y → A) ∧ (¬ x ≤ y → B) := by
  subst hx hy
  rw [nI_leI ha hb]
  exact ⟨f, fun z => g (by omega)⟩
theorem pk_lt {x y : Int32} {A B : Prop} (a b : Nat) (f : a < b → A) (g : b ≤ a → B) (hx : x = nI a := by rfl) (hy : y = nI b := by rfl) (ha : a < 2 ^ 31 := by omega) (hb : b < 2 ^ 31 := by omega) : (x < y → A) ∧ (¬ x < y → B) := by
  subst hx hy
  rw [nI_ltI ha hb]
  exact ⟨f, fun z => g (by omega)⟩
theorem pk_eq {x y : Int32} {A B : Prop} (a b : Nat) (f : a = b → A) (g : a ≠ b → B) (hx : x = nI a := by rfl) (hy : y = nI b := by rfl) (ha : a < 2 ^ 31 := by omega) (hb : b < 2 ^ 31 := by omega) : (x = y → A) ∧ (¬ x = y → B) := by
  subst hx hy
  rw [nI_eq ha hb]
  exact ⟨f, g⟩
theorem pk_in {x : Int32} (n N : Nat) (h : n < N) (hx : x = nI n := by rfl) (hN : N < 2 ^ 31 := by omega) : vp_in x N := by
  subst hx
  exact vp_in_nI h hN
theorem pk_cl {x : Int32} (n : Nat) (hx : x = nI n := by rfl) (h : n < 2 ^ 31 := by omega) : x.toNatClampNeg = n := by
  subst hx
  exact nI_clamp h

/-! the abstract stock: a list of lots, each (quantity, unit cost) -/
/-- the arrays q, c hold the lots of L from index o on -/
def fs_R (q c : Nat → Int32) : Nat → List (Nat × Nat) → Prop
  | _, [] => True
  | o, p :: L => q o = nI p.1 ∧ c o = nI p.2 ∧ fs_R q c (o + 1) L
/-- the quantities are in 1 .. 100 -/
def fs_V : List (Nat × Nat) → Prop
  | [] => True
  | p :: L => 1 ≤ p.1 ∧ p.1 ≤ 100 ∧ fs_V L
/-- the quantity on hand -/
def fs_T : List (Nat × Nat) → Nat
  | [] => 0
  | p :: L => p.1 + fs_T L
/-- sale by lots, as the component does it: the cost, and what is left -/
def fs_S : List (Nat × Nat) → Nat → Nat × List (Nat × Nat)
  | [], _ => (0, [])
  | p :: L, r => if r = 0 then (0, p :: L) else if p.1 ≤ r then (p.1 * p.2 + (fs_S L (r - p.1)).1, (fs_S L (r - p.1)).2) else (r * p.2, (p.1 - r, p.2) :: L)
/-- sale by units, as the reference does it -/
def fs_U : Nat → List (Nat × Nat) → Nat × List (Nat × Nat)
  | 0, L => (0, L)
  | _ + 1, [] => (0, [])
  | k + 1, p :: L => if p.1 = 1 then (p.2 + (fs_U k L).1, (fs_U k L).2) else (p.2 + (fs_U k ((p.1 - 1, p.2) :: L)).1, (fs_U k ((p.1 - 1, p.2) :: L)).2)

theorem fs_S0 (L : List (Nat × Nat)) : fs_S L 0 = (0, L) := by
  cases L with
  | nil => rfl
  | cons p L => exact if_pos rfl
theorem fs_S1 {a b r : Nat} {L : List (Nat × Nat)} (h0 : r ≠ 0) (h : a ≤ r) : fs_S ((a, b) :: L) r = (a * b + (fs_S L (r - a)).1, (fs_S L (r - a)).2) := by
  rw [fs_S, if_neg h0, if_pos h]
theorem fs_S2 {a b r : Nat} {L : List (Nat × Nat)} (h0 : r ≠ 0) (h : ¬ a ≤ r) : fs_S ((a, b) :: L) r = (r * b, (a - r, b) :: L) := by
  rw [fs_S, if_neg h0, if_neg h]
theorem fs_U1 {b k : Nat} {L : List (Nat × Nat)} : fs_U (k + 1) ((1, b) :: L) = (b + (fs_U k L).1, (fs_U k L).2) := by
  rw [fs_U, if_pos rfl]
theorem fs_U2 {a b k : Nat} {L : List (Nat × Nat)} (h : a ≠ 1) : fs_U (k + 1) ((a, b) :: L) = (b + (fs_U k ((a - 1, b) :: L)).1, (fs_U k ((a - 1, b) :: L)).2) := by
  rw [fs_U, if_neg h]

/-- both sales are one -/
theorem fs_US : ∀ (k : Nat) (L : List (Nat × Nat)), fs_V L → fs_U k L = fs_S L k := by
  intro k
  induction k with
  | zero => intro L _; rw [fs_S0]; rfl
  | succ k ih =>
    intro L hV
    cases L with
    | nil => rfl
    | cons p L =>
      obtain ⟨a, b⟩ := p
      obtain ⟨h1, h2, hL⟩ := hV
      dsimp only at h1 h2
      by_cases ha : a = 1
      · subst ha
        rw [fs_U1, fs_S1 (by omega) (by omega), ih L hL, Nat.add_sub_cancel, Nat.one_mul]
      · rw [fs_U2 ha, ih ((a - 1, b) :: L) ⟨by show 1 ≤ a - 1; omega, by show a - 1 ≤ 100; omega, hL⟩]
        by_cases hk : k = 0
        · subst hk
          rw [fs_S0, fs_S2 (by omega) (by omega)]
          simp
        · by_cases hak : a ≤ k + 1
          · rw [fs_S1 hk (by omega), fs_S1 (by omega) hak]
            have e : k - (a - 1) = k + 1 - a := by omega
            obtain ⟨d, rfl⟩ : ∃ d, a = d + 1 := ⟨a - 1, by omega⟩
            rw [e, Nat.add_sub_cancel, Nat.succ_mul]
            dsimp only
            congr 1
            omega
          · rw [fs_S2 hk (by omega), fs_S2 (by omega) hak]
            have e : a - 1 - k = a - (k + 1) := by omega
            rw [e, Nat.succ_mul]
            dsimp only
            congr 1
            omega
theorem fs_VS : ∀ (L : List (Nat × Nat)) (r : Nat), fs_V L → fs_V (fs_S L r).2 ∧ (fs_S L r).2.length ≤ L.length := by
  intro L
  induction L with
  | nil => intro r _; exact ⟨trivial, Nat.le_refl _⟩
  | cons p L ih =>
    intro r hV
    obtain ⟨a, b⟩ := p
    by_cases h0 : r = 0
    · subst h0; rw [fs_S0]; exact ⟨hV, Nat.le_refl _⟩
    · obtain ⟨h1, h2, hL⟩ := hV
      dsimp only at h1 h2
      by_cases h : a ≤ r
      · rw [fs_S1 h0 h]
        obtain ⟨i1, i2⟩ := ih (r - a) hL
        exact ⟨i1, Nat.le_trans i2 (Nat.le_succ _)⟩
      · rw [fs_S2 h0 h]
        exact ⟨⟨by show 1 ≤ a - r; omega, by show a - r ≤ 100; omega, hL⟩, Nat.le_refl _⟩
theorem fs_TL : ∀ L : List (Nat × Nat), fs_V L → fs_T L ≤ 100 * L.length := by
  intro L
  induction L with
  | nil => intro _; exact Nat.le_refl _
  | cons p L ih =>
    intro hV
    obtain ⟨h1, h2, hL⟩ := hV
    have := ih hL
    show p.1 + fs_T L ≤ 100 * (L.length + 1)
    omega
/-- lots moved from o to o' -/
theorem fs_Rm {q c q' c' : Nat → Int32} : ∀ (L : List (Nat × Nat)) (o o' : Nat), (∀ j, j < L.length → q' (o' + j) = q (o + j) ∧ c' (o' + j) = c (o + j)) → fs_R q c o L → fs_R q' c' o' L := by
  intro L
  induction L with
  | nil => intro _ _ _ _; trivial
  | cons p L ih =>
    intro o o' h hR
    obtain ⟨h1, h2, h3⟩ := hR
    have e := h 0 (Nat.succ_pos _)
    refine ⟨e.1.trans h1, e.2.trans h2, ih (o + 1) (o' + 1) (fun j hj => ?_) h3⟩
    have e1 : o' + 1 + j = o' + (j + 1) := by omega
    have e2 : o + 1 + j = o + (j + 1) := by omega
    rw [e1, e2]
    exact h (j + 1) (Nat.succ_lt_succ hj)
/-- two pictures of one list -/
theorem fs_R2 {q c q' c' : Nat → Int32} : ∀ (L : List (Nat × Nat)) (o : Nat), fs_R q c o L → fs_R q' c' o L → ∀ j, j < L.length → q' (o + j) = q (o + j) ∧ c' (o + j) = c (o + j) := by
  intro L
  induction L with
  | nil => intro _ _ _ j hj; exact absurd hj (Nat.not_lt_zero _)
  | cons p L ih =>
    intro o h h' j hj
    cases j with
    | zero => exact ⟨h'.1.trans h.1.symm, h'.2.1.trans h.2.1.symm⟩
    | succ j =>
      have e : o + (j + 1) = o + 1 + j := by omega
      rw [e]
      exact ih (o + 1) h.2.2 h'.2.2 j (Nat.lt_of_succ_lt_succ hj)
/-- a lot more -/
theorem fs_Ra {q c : Nat → Int32} {a b : Nat} : ∀ (L : List (Nat × Nat)) (o : Nat), fs_R q c o L → q (o + L.length) = nI a → c (o + L.length) = nI b → fs_R q c o (L ++ [(a, b)]) := by
  intro L
  induction L with
  | nil => intro o _ h1 h2; exact ⟨h1, h2, trivial⟩
  | cons p L ih =>
    intro o h h1 h2
    have e : o + (p :: L).length = o + 1 + L.length := by show o + (L.length + 1) = _; omega
    rw [e] at h1 h2
    exact ⟨h.1, h.2.1, ih (o + 1) h.2.2 h1 h2⟩
theorem fs_Va {a b : Nat} (h1 : 1 ≤ a) (h2 : a ≤ 100) : ∀ L : List (Nat × Nat), fs_V L → fs_V (L ++ [(a, b)]) := by
  intro L
  induction L with
  | nil => intro _; exact ⟨h1, h2, trivial⟩
  | cons p L ih => intro h; exact ⟨h.1, h.2.1, ih h.2.2⟩
/-- a write outside the lots -/
theorem fs_Rw {q c : Nat → Int32} {o k : Nat} {x : Int32} (L : List (Nat × Nat)) (hk : k < o ∨ o + L.length ≤ k) (h : fs_R q c o L) : fs_R (upd q k x) c o L :=
  fs_Rm L o o (fun j hj => ⟨pk_un (by omega), rfl⟩) h
theorem fs_Rb {q c : Nat → Int32} {a b : Nat} {L : List (Nat × Nat)} (h : fs_R q c 0 L) : fs_R (upd q L.length (nI a)) (upd c L.length (nI b)) 0 (L ++ [(a, b)]) := by
  refine fs_Ra L 0 (fs_Rm L 0 0 (fun j hj => ⟨pk_un (by omega), pk_un (by omega)⟩) h) ?_ ?_
  · rw [Nat.zero_add]; exact pk_us
  · rw [Nat.zero_add]; exact pk_us
end
section
/-! the component's sale -/
/-- the sum over the lots -/
theorem fs_x11 {post : Int32 → SX → Prop} {x1 fc : Int32} {cnt : Nat} {q c : Nat → Int32} (hc : cnt ≤ 8) : ∀ (L : List (Nat × Nat)) (n o t : Nat), o + L.length = cnt → L.length < n → fs_R q c o L →
    ((x1 ≤ nI (t + fs_T L) → (∃ n53 : Nat, wX_sell_53 post fc (nI cnt) n53 x1 0 0 0 q c)) ∧ (¬ x1 ≤ nI (t + fs_T L) → post (-2) (fc, nI cnt, q, c))) →
    wX_sell_11 post x1 fc (nI cnt) q c n (nI t) (nI o) := by
  intro L
  induction L with
  | nil =>
    intro n o t ho hn hR K
    have ho' : o + 0 = cnt := ho
    cases n with
    | zero => exact absurd hn (Nat.not_lt_zero _)
    | succ m => exact br_t (nI_le (by omega) (by omega)) K
  | cons p L ih =>
    intro n o t ho hn hR K
    have ho' : o + (L.length + 1) = cnt := ho
    have hn' : L.length + 1 < n := hn
    cases n with
    | zero => exact absurd hn (Nat.not_lt_zero _)
    | succ m =>
      have e : t + p.1 + fs_T L = t + fs_T (p :: L) := Nat.add_assoc _ _ _
      rw [← e] at K
      refine br_f (nI_ge (by omega) (by omega)) ⟨vp_in_nI (by omega) (by omega), nm_r (e' := nI (t + p.1)) ?_ (nm_r (e' := nI (o + 1)) (nI_1 o) (ih m (o + 1) (t + p.1) (by omega) (by omega) hR.2.2 K))⟩
      rw [nI_clamp (by omega), hR.1, nI_add]
/-- the tail is cleared -/
theorem fs_x211 {post : Int32 → SX → Prop} {x4 fc : Int32} {m cnt : Nat} {q0 c0 : Nat → Int32} (hc : cnt ≤ 8) (K : ∀ q c : Nat → Int32, (∀ j, j < m → q j = q0 j ∧ c j = c0 j) → post x4 (fc, nI m, q, c)) :
    ∀ (d n i : Nat) (q c : Nat → Int32), i + d = cnt → m ≤ i → d < n → (∀ j, j < m → q j = q0 j ∧ c j = c0 j) → wX_sell_211 post x4 (nI m) fc (nI cnt) n (nI i) q c := by
  intro d
  induction d with
  | zero =>
    intro n i q c hi hm hn h
    cases n with
    | zero => exact absurd hn (Nat.not_lt_zero _)
    | succ n => exact br_t (nI_le (by omega) (by omega)) (K q c h)
  | succ d ih =>
    intro n i q c hi hm hn h
    cases n with
    | zero => exact absurd hn (Nat.not_lt_zero _)
    | succ n =>
      have hin : vp_in (nI i) 8 := vp_in_nI (by omega) (by omega)
      have hcl : (nI i).toNatClampNeg = i := nI_clamp (by omega)
      refine br_f (nI_ge (by omega) (by omega)) ⟨hin, nm_r (e' := upd q i 0) (by rw [hcl]) ⟨hin, nm_r (e' := upd c i 0) (by rw [hcl]) (nm_r (e' := nI (i + 1)) (nI_1 i) (ih n (i + 1) _ _ (by omega) (by omega) (by omega) ?_))⟩⟩
      intro j hj
      rw [pk_un (by omega), pk_un (by omega)]
      exact h j hj
/-- the lots move down by d -/
theorem fs_x160 {post : Int32 → SX → Prop} {x4 fc : Int32} {m d cnt : Nat} {q0 c0 : Nat → Int32} (hc : cnt ≤ 8) (hm : m + d = cnt) (K : ∀ q c : Nat → Int32, (∀ j, j < m → q j = q0 (d + j) ∧ c j = c0 (d + j)) → post x4 (fc, nI m, q, c)) :
    ∀ (e n i : Nat) (q c : Nat → Int32), i + e = m → e < n → (∀ j, j < i → q j = q0 (d + j) ∧ c j = c0 (d + j)) → (∀ j, i ≤ j → q (d + j) = q0 (d + j) ∧ c (d + j) = c0 (d + j)) → wX_sell_160 post x4 (nI d) (nI m) fc (nI cnt) n (nI i) q c := by
  intro e
  induction e with
  | zero =>
    intro n i q c hi hn hA hB
    cases n with
    | zero => exact absurd hn (Nat.not_lt_zero _)
    | succ n =>
      refine br_t (nI_le (by omega) (by omega)) ⟨d + 1, fs_x211 (q0 := q) (c0 := c) hc (fun q' c' h => K q' c' (fun j hj => ?_)) d (d + 1) m q c hm (Nat.le_refl _) (Nat.lt_succ_self _) (fun j _ => ⟨rfl, rfl⟩)⟩
      have h1 := h j hj
      have h2 := hA j (by omega)
      exact ⟨h1.1.trans h2.1, h1.2.trans h2.2⟩
  | succ e ih =>
    intro n i q c hi hn hA hB
    cases n with
    | zero => exact absurd hn (Nat.not_lt_zero _)
    | succ n =>
      have hin : vp_in (nI i) 8 := vp_in_nI (by omega) (by omega)
      have hin2 : vp_in (nI i + nI d) 8 := by rw [nI_add]; exact vp_in_nI (by omega) (by omega)
      have hcl : (nI i).toNatClampNeg = i := nI_clamp (by omega)
      have hcl2 : (nI i + nI d).toNatClampNeg = d + i := by rw [nI_add, Nat.add_comm]; exact nI_clamp (by omega)
      refine br_f (nI_ge (by omega) (by omega)) ⟨hin2, hin, nm_r (e' := upd q i (q (d + i))) (by rw [hcl, hcl2]) ⟨hin2, hin, nm_r (e' := upd c i (c (d + i))) (by rw [hcl, hcl2]) (nm_r (e' := nI (i + 1)) (nI_1 i) (ih n (i + 1) _ _ (by omega) (by omega) ?_ ?_))⟩⟩
      · intro j hj
        by_cases hji : j = i
        · subst hji
          rw [pk_us, pk_us]
          exact hB j (Nat.le_refl _)
        · rw [pk_un hji, pk_un hji]
          exact hA j (by omega)
      · intro j hj
        rw [pk_un (by omega), pk_un (by omega)]
        exact hB j (by omega)
/-- behind the scan: o lots are used up -/
theorem fs_x143 {post : Int32 → SX → Prop} {x4 fc : Int32} {o cnt : Nat} {q c : Nat → Int32} {L : List (Nat × Nat)} (hc : cnt ≤ 8) (ho : o + L.length = cnt) (hR : fs_R q c o L) (K : ∀ q' c' : Nat → Int32, fs_R q' c' 0 L → post x4 (fc, nI L.length, q', c')) : wX_sell_143 post x4 (nI o) fc (nI cnt) q c := by
  unfold wX_sell_143
  by_cases h0 : o = 0
  · subst h0
    rw [Nat.zero_add] at ho
    subst ho
    exact br_t (by decide) (K q c hR)
  · refine br_f (nI_nle (by omega) (by omega)) (nm_r (e' := nI L.length) ?_ ⟨L.length + 1, fs_x160 (q0 := q) (c0 := c) hc (by omega) (fun q' c' h => K q' c' (fs_Rm L o 0 (fun j hj => ?_) hR)) L.length (L.length + 1) 0 q c (Nat.zero_add _) (Nat.lt_succ_self _) (fun j hj => absurd hj (Nat.not_lt_zero _)) (fun j _ => ⟨rfl, rfl⟩)⟩)
    · rw [pk_sub (by omega)]
      congr 1
      omega
    · rw [Nat.zero_add]
      exact h j hj
/-- one lot gives t units -/
theorem fs_x84 {post : Int32 → SX → Prop} {J : Int32 → Int32 → Int32 → Int32 → (Nat → Int32) → (Nat → Int32) → Prop} {fc fn x5 : Int32} {r s o t a b : Nat} {q c : Nat → Int32} (ho : o < 8) (hq : q o = nI a) (hcc : c o = nI b) (ha : a ≤ 100) (ht : t ≤ a) (htr : t ≤ r)
    (h1 : a = t → J (nI (r - t)) (nI (s + t * b)) (x5 + 1) (nI (o + 1)) (upd q o (nI (a - t))) c) (h2 : a ≠ t → J (nI (r - t)) (nI (s + t * b)) x5 (nI (o + 1)) (upd q o (nI (a - t))) c) : wX_sell_84 post J (nI r) (nI s) x5 (nI o) (nI t) fc fn q c := by
  have hi : vp_in (nI o) 8 := vp_in_nI ho (by omega)
  have hcl : (nI o).toNatClampNeg = o := nI_clamp (by omega)
  unfold wX_sell_84
  rw [hcl]
  refine ⟨hi, nm_r (e' := nI (s + t * b)) (by rw [hcc, pk_mul, nI_add]) ⟨hi, hi, nm_r (e' := upd q o (nI (a - t))) (by rw [hq, pk_sub ht]) (nm_r (e' := nI (r - t)) (pk_sub htr) ⟨hi, ?_⟩)⟩⟩
  rw [pk_us]
  exact pk_eq (a - t) 0 (fun e => nm_e (nm_r (nI_1 o) (h1 (by omega)))) (fun e => nm_r (nI_1 o) (h2 (by omega)))
/-- the scan -/
theorem fs_x53 {post : Int32 → SX → Prop} {fc : Int32} {cnt : Nat} {c : Nat → Int32} (hc : cnt ≤ 8) : ∀ (L : List (Nat × Nat)) (n o r s : Nat) (q : Nat → Int32), o + L.length = cnt → L.length < n → r < 2 ^ 31 → fs_V L → fs_R q c o L →
    (∀ q' c' : Nat → Int32, fs_R q' c' 0 (fs_S L r).2 → post (nI (s + (fs_S L r).1)) (fc, nI (fs_S L r).2.length, q', c')) →
    wX_sell_53 post fc (nI cnt) n (nI r) (nI s) (nI o) (nI o) q c := by
  intro L
  induction L with
  | nil =>
    intro n o r s q ho hn hr hV hR K
    have ho' : o + 0 = cnt := ho
    cases n with
    | zero => exact absurd hn (Nat.not_lt_zero _)
    | succ m => exact br_t (nI_le (by omega) (by omega)) (fs_x143 (L := []) hc ho hR K)
  | cons p L ih =>
    intro n o r s q ho hn hr hV hR K
    obtain ⟨a, b⟩ := p
    have ho' : o + (L.length + 1) = cnt := ho
    have hn' : L.length + 1 < n := hn
    have hq : q o = nI a := hR.1
    have hb : c o = nI b := hR.2.1
    have h1 : 1 ≤ a := hV.1
    have h2 : a ≤ 100 := hV.2.1
    cases n with
    | zero => exact absurd hn (Nat.not_lt_zero _)
    | succ m =>
      refine br_f (nI_ge (by omega) (by omega)) ?_
      by_cases h0 : r = 0
      · subst h0
        rw [fs_S0] at K
        exact br_t (by decide) (fs_x143 (L := (a, b) :: L) hc ho hR K)
      · refine br_f (nI_nle (by omega) hr) ⟨vp_in_nI (by omega) (by omega), nm_r (e' := nI a) (by rw [nI_clamp (by omega), hq]) ?_⟩
        by_cases h : a ≤ r
        · rw [fs_S1 h0 h] at K
          dsimp only at K
          rw [← Nat.add_assoc] at K
          refine br_t (nI_le h hr) (fs_x84 (by omega) hq hb h2 (Nat.le_refl _) h (fun _ => ?_) (fun e => absurd rfl e))
          rw [nI_1]
          exact ih m (o + 1) (r - a) (s + a * b) _ (by omega) (by omega) (by omega) hV.2.2 (fs_Rw L (Or.inl (by omega)) hR.2.2) K
        · rw [fs_S2 h0 h] at K
          dsimp only at K
          refine br_f (nI_ge (by omega) (by omega)) (fs_x84 (by omega) hq hb h2 (by omega) (Nat.le_refl _) (fun e => absurd e (by omega)) (fun _ => ?_))
          rw [Nat.sub_self]
          have E : wX_sell_143 post (nI (s + r * b)) (nI o) fc (nI cnt) (upd q o (nI (a - r))) c := fs_x143 (L := (a - r, b) :: L) hc ho ⟨pk_us, hb, fs_Rw L (Or.inl (by omega)) hR.2.2⟩ K
          cases m with
          | zero => omega
          | succ m => exact br_c (fun _ => E) (fun _ => br_t (by decide) E)
theorem fs_xsell {post : Int32 → SX → Prop} {fc : Int32} {q c : Nat → Int32} {L : List (Nat × Nat)} {k : Nat} (hL : L.length ≤ 8) (hV : fs_V L) (hR : fs_R q c 0 L) (hk1 : 1 ≤ k) (hk : k < 2 ^ 31)
    (K1 : k ≤ fs_T L → ∀ q' c' : Nat → Int32, fs_R q' c' 0 (fs_S L k).2 → post (nI (fs_S L k).1) (fc, nI (fs_S L k).2.length, q', c')) (K2 : fs_T L < k → post (-2) (fc, nI L.length, q, c)) : wpX_sell post (fc, nI L.length, q, c) (nI k) := by
  have hT := fs_TL L hV
  have h1 : (1 : Int32) ≤ nI k := nI_le (a := 1) hk1 hk
  refine br_t h1 ⟨L.length + 1, fs_x11 hL L (L.length + 1) 0 0 (Nat.zero_add _) (Nat.lt_succ_self _) hR ?_⟩
  rw [Nat.zero_add]
  refine pk_le k (fs_T L) (fun h => ⟨L.length + 1, fs_x53 hL L (L.length + 1) 0 k 0 q (Nat.zero_add _) (Nat.lt_succ_self _) hk hV hR ?_⟩) K2
  rw [Nat.zero_add]
  exact K1 h
end
section
/-! the reference's sale -/
theorem fs_y11 {post : Int32 → SY → Prop} {x1 fc : Int32} {cnt : Nat} {q c : Nat → Int32} (hc : cnt ≤ 8) : ∀ (L : List (Nat × Nat)) (n o t : Nat), o + L.length = cnt → L.length < n → fs_R q c o L →
    ((x1 ≤ nI (t + fs_T L) → (∃ n47 : Nat, wY_sell_47 post fc n47 0 x1 (nI cnt) q c)) ∧ (¬ x1 ≤ nI (t + fs_T L) → post (-2) (fc, nI cnt, q, c))) →
    wY_sell_11 post x1 fc (nI cnt) q c n (nI t) (nI o) := by
  intro L
  induction L with
  | nil =>
    intro n o t ho hn hR K
    have ho' : o + 0 = cnt := ho
    cases n with
    | zero => exact absurd hn (Nat.not_lt_zero _)
    | succ m => exact br_t (nI_le (by omega) (by omega)) K
  | cons p L ih =>
    intro n o t ho hn hR K
    have ho' : o + (L.length + 1) = cnt := ho
    have hn' : L.length + 1 < n := hn
    cases n with
    | zero => exact absurd hn (Nat.not_lt_zero _)
    | succ m =>
      have e : t + p.1 + fs_T L = t + fs_T (p :: L) := Nat.add_assoc _ _ _
      rw [← e] at K
      refine br_f (nI_ge (by omega) (by omega)) ⟨vp_in_nI (by omega) (by omega), nm_r (e' := nI (t + p.1)) ?_ (nm_r (e' := nI (o + 1)) (nI_1 o) (ih m (o + 1) (t + p.1) (by omega) (by omega) hR.2.2 K))⟩
      rw [nI_clamp (by omega), hR.1, nI_add]
/-- the lots move down by one -/
theorem fs_y87 {post : Int32 → SY → Prop} {J : Int32 → Int32 → Int32 → (Nat → Int32) → (Nat → Int32) → Prop} {x3 fc : Int32} {k m : Nat} {q0 c0 : Nat → Int32} (hc : m + 1 ≤ 8) (K : ∀ q c : Nat → Int32, (∀ j, j < m → q j = q0 (1 + j) ∧ c j = c0 (1 + j)) → J x3 (nI k) (nI m) q c) :
    ∀ (d n p : Nat) (q c : Nat → Int32), p + d = m → d < n → (∀ j, j < p → q j = q0 (1 + j) ∧ c j = c0 (1 + j)) → (∀ j, p < j → q j = q0 j ∧ c j = c0 j) → wY_sell_87 post J x3 (nI (k + 1)) fc (nI (m + 1)) n (nI (p + 1)) q c := by
  intro d
  induction d with
  | zero =>
    intro n p q c hp hn hA hB
    have hp' : p = m := hp
    cases n with
    | zero => exact absurd hn (Nat.not_lt_zero _)
    | succ n =>
      refine br_t (nI_le (by omega) (by omega)) (nm_r (e' := nI m) (nI_pred m) (nm_r (e' := nI k) (pk_m1 k) (K q c (fun j hj => hA j (by omega)))))
  | succ d ih =>
    intro n p q c hp hn hA hB
    cases n with
    | zero => exact absurd hn (Nat.not_lt_zero _)
    | succ n =>
      have hin : vp_in (nI (p + 1)) 8 := vp_in_nI (by omega) (by omega)
      have hin2 : vp_in (nI (p + 1) - 1) 8 := by rw [nI_pred]; exact vp_in_nI (by omega) (by omega)
      have hcl : (nI (p + 1)).toNatClampNeg = p + 1 := nI_clamp (by omega)
      have hcl2 : (nI (p + 1) - 1).toNatClampNeg = p := by rw [nI_pred]; exact nI_clamp (by omega)
      refine br_f (nI_ge (by omega) (by omega)) ⟨hin, hin2, nm_r (e' := upd q p (q (p + 1))) (by rw [hcl, hcl2]) ⟨hin, hin2, nm_r (e' := upd c p (c (p + 1))) (by rw [hcl, hcl2]) (nm_r (e' := nI (p + 1 + 1)) (nI_1 (p + 1)) (ih n (p + 1) _ _ (by omega) (by omega) ?_ ?_))⟩⟩
      · intro j hj
        by_cases hjp : j = p
        · subst hjp
          rw [pk_us, pk_us, Nat.add_comm 1 j]
          exact hB (j + 1) (by omega)
        · rw [pk_un hjp, pk_un hjp]
          exact hA j (by omega)
      · intro j hj
        rw [pk_un (by omega), pk_un (by omega)]
        exact hB j (by omega)
/-- unit by unit -/
theorem fs_y47 {post : Int32 → SY → Prop} {fc : Int32} : ∀ (k n s : Nat) (L : List (Nat × Nat)) (q c : Nat → Int32), k < n → k < 2 ^ 31 → L.length ≤ 8 → fs_V L → k ≤ fs_T L → fs_R q c 0 L →
    (∀ q' c' : Nat → Int32, fs_R q' c' 0 (fs_U k L).2 → post (nI (s + (fs_U k L).1)) (fc, nI (fs_U k L).2.length, q', c')) →
    wY_sell_47 post fc n (nI s) (nI k) (nI L.length) q c := by
  intro k
  induction k with
  | zero =>
    intro n s L q c hn hk hL hV hT hR K
    cases n with
    | zero => exact absurd hn (Nat.not_lt_zero _)
    | succ n => exact br_t (by decide) (K q c hR)
  | succ k ih =>
    intro n s L q c hn hk hL hV hT hR K
    cases L with
    | nil => exact absurd hT (Nat.not_succ_le_zero _)
    | cons p L =>
      obtain ⟨a, b⟩ := p
      have hq : q 0 = nI a := hR.1
      have hb : c 0 = nI b := hR.2.1
      have h1 : 1 ≤ a := hV.1
      have h2 : a ≤ 100 := hV.2.1
      have hL' : L.length + 1 ≤ 8 := hL
      have hT' : k + 1 ≤ a + fs_T L := hT
      cases n with
      | zero => exact absurd hn (Nat.not_lt_zero _)
      | succ n =>
        refine br_f (nI_nle (by omega) hk) (nm_r (e' := nI (s + b)) (by rw [hb, nI_add]) (nm_r (e' := upd q 0 (nI (a - 1))) ?_ ?_))
        · rw [hq]
          exact congrArg (upd q 0) (pk_sub (b := 1) h1)
        · have hR' : fs_R (upd q 0 (nI (a - 1))) c 1 L := fs_Rw L (Or.inl (by omega)) hR.2.2
          by_cases ha : a = 1
          · subst ha
            rw [fs_U1] at K
            dsimp only at K
            rw [← Nat.add_assoc] at K
            refine br_t pk_us ⟨L.length + 1, fs_y87 (q0 := upd q 0 (nI (1 - 1))) (c0 := c) hL' (fun q' c' h => ?_) L.length (L.length + 1) 0 _ _ (Nat.zero_add _) (Nat.lt_succ_self _) (fun j hj => absurd hj (Nat.not_lt_zero _)) (fun j _ => ⟨rfl, rfl⟩)⟩
            refine ih n (s + b) L q' c' (by omega) (by omega) (by omega) hV.2.2 (by omega) (fs_Rm L 1 0 (fun j hj => ?_) hR') K
            rw [Nat.zero_add]
            exact h j hj
          · rw [fs_U2 ha] at K
            dsimp only at K
            rw [← Nat.add_assoc] at K
            have hne : ¬ upd q 0 (nI (a - 1)) 0 = 0 := by
              rw [pk_us]
              exact nI_ne0 (by omega) (by omega)
            have hV' : fs_V ((a - 1, b) :: L) := ⟨by show 1 ≤ a - 1; omega, by show a - 1 ≤ 100; omega, hV.2.2⟩
            have hT2 : k ≤ fs_T ((a - 1, b) :: L) := by show k ≤ a - 1 + fs_T L; omega
            exact br_f hne (nm_r (e' := nI k) (pk_m1 k) (ih n (s + b) ((a - 1, b) :: L) _ c (by omega) (by omega) hL hV' hT2 ⟨pk_us, hb, hR'⟩ K))
theorem fs_ysell {post : Int32 → SY → Prop} {fc : Int32} {q c : Nat → Int32} {L : List (Nat × Nat)} {k : Nat} (hL : L.length ≤ 8) (hV : fs_V L) (hR : fs_R q c 0 L) (hk1 : 1 ≤ k) (hk : k < 2 ^ 31)
    (K1 : k ≤ fs_T L → ∀ q' c' : Nat → Int32, fs_R q' c' 0 (fs_S L k).2 → post (nI (fs_S L k).1) (fc, nI (fs_S L k).2.length, q', c')) (K2 : fs_T L < k → post (-2) (fc, nI L.length, q, c)) : wpY_sell post (fc, nI L.length, q, c) (nI k) := by
  have hT := fs_TL L hV
  have h1 : (1 : Int32) ≤ nI k := nI_le (a := 1) hk1 hk
  refine br_t h1 ⟨L.length + 1, fs_y11 hL L (L.length + 1) 0 0 (Nat.zero_add _) (Nat.lt_succ_self _) hR ?_⟩
  rw [Nat.zero_add]
  refine pk_le k (fs_T L) (fun h => ⟨k + 1, fs_y47 k (k + 1) 0 L q c (Nat.lt_succ_self _) hk hL hV h hR ?_⟩) K2
  rw [Nat.zero_add, fs_US k L hV]
  exact K1 h
end
section
/-- one list of lots, at most cap of them, cap at most 8, quantities in 1 .. 100; each side's arrays hold it from index 0 on -/
def i_Rel (k : Nat) (u : SX) (v : SY) : Prop := ∃ (cap : Nat) (L : List (Nat × Nat)) (q c q' c' : Nat → Int32), u = (nI cap, nI L.length, q, c) ∧ v = (nI cap, nI L.length, q', c') ∧ cap ≤ 8 ∧ L.length ≤ cap ∧ fs_V L ∧ fs_R q c 0 L ∧ fs_R q' c' 0 L
theorem i_up {k : Nat} {u : SX} {v : SY} (h : i_Rel k u v) : i_Rel (k + 3) u v := h
theorem fs_i0 {cap : Nat} (h : cap ≤ 8) : i_Rel 1 (nI cap, 0, (fun _ => 0), (fun _ => 0)) (nI cap, 0, (fun _ => 0), (fun _ => 0)) :=
  ⟨cap, [], _, _, _, _, rfl, rfl, h, Nat.zero_le _, trivial, trivial, trivial⟩
theorem i_vc0 (k0 : Int32) : wpX_init (fun u => wpY_init (fun v => i_Rel 1 u v) k0) k0 := by
  unfold wpX_init wpY_init wX_init_28 wY_init_25
  by_cases h0 : 0 ≤ k0
  · by_cases h8 : k0 ≤ 8
    · obtain ⟨j, hj, e⟩ := nI_of2 (M := 8) (n := 8) (by decide) (Int32.not_lt.mpr h0) h8
      have R := fs_i0 hj
      rw [← e] at R
      exact br_t h0 (br_t h8 (br_t h0 (br_t h8 R)))
    · exact br_t h0 (br_f h8 (br_t h0 (br_f h8 (fs_i0 (cap := 8) (Nat.le_refl _)))))
  · exact br_f h0 (br_t (by decide) (br_f h0 (fs_i0 (cap := 0) (Nat.zero_le _))))
theorem i_vc_buy {k : Nat} {u : SX} {v : SY} (I : i_Rel k u v) (hk : k + 3 ≤ 1537) (v1 : Int32) (v2 : Int32) : wpX_buy (fun r u' => wpY_buy (fun r' v' => r' = r ∧ i_Rel (k + 3) u' v') v v1 v2) u v1 v2 := by
  have I' := i_up I
  obtain ⟨cap, L, q, c, q', c', rfl, rfl, h8, hL, hV, hR, hR'⟩ := I
  by_cases h1 : v1 < 1
  · exact br_t h1 (br_t h1 ⟨rfl, I'⟩)
  by_cases h2 : 100 < v1
  · exact br_f h1 (br_t h2 (br_f h1 (br_t h2 ⟨rfl, I'⟩)))
  by_cases h3 : v2 < 0
  · exact br_f h1 (br_f h2 (br_t h3 (br_f h1 (br_f h2 (br_t h3 ⟨rfl, I'⟩)))))
  by_cases h4 : v2 ≤ 1000
  · by_cases h5 : nI L.length = nI cap
    · exact br_f h1 (br_f h2 (br_f h3 (br_t h4 (br_t h5 (br_f h1 (br_f h2 (br_f h3 (br_t h4 (br_t h5 ⟨rfl, I'⟩)))))))))
    · have h0 : ¬ v1 < 0 := fun z => h1 (Int32.lt_trans z (by decide))
      obtain ⟨a, ha, rfl⟩ := nI_of h0
      obtain ⟨b, hb, rfl⟩ := nI_of h3
      have a1 : 1 ≤ a := Nat.le_of_not_lt fun z => h1 (nI_lt (b := 1) z (by decide))
      have a2 : a ≤ 100 := Nat.le_of_not_lt fun z => h2 (nI_lt (a := 100) z ha)
      have hlt : L.length < cap := Nat.lt_of_le_of_ne hL fun z => h5 (congrArg nI z)
      have hi : vp_in (nI L.length) 8 := vp_in_nI (by omega) (by omega)
      have hcl : (nI L.length).toNatClampNeg = L.length := nI_clamp (by omega)
      have R : i_Rel (k + 3) (nI cap, nI (L.length + 1), upd q L.length (nI a), upd c L.length (nI b)) (nI cap, nI (L.length + 1), upd q' L.length (nI a), upd c' L.length (nI b)) := by
        refine ⟨cap, L ++ [(a, b)], _, _, _, _, ?_, ?_, h8, ?_, fs_Va a1 a2 L hV, fs_Rb hR, fs_Rb hR'⟩
        · rw [List.length_append]; rfl
        · rw [List.length_append]; rfl
        · rw [List.length_append]; exact hlt
      refine br_f h1 (br_f h2 (br_f h3 (br_t h4 (br_f h5 ⟨hi, nm_r (e' := upd q L.length (nI a)) (by rw [hcl]) ⟨hi, nm_r (e' := upd c L.length (nI b)) (by rw [hcl]) (nm_r (e' := nI (L.length + 1)) (nI_1 _) ?_)⟩⟩))))
      exact br_f h1 (br_f h2 (br_f h3 (br_t h4 (br_f h5 ⟨hi, nm_r (e' := upd q' L.length (nI a)) (by rw [hcl]) ⟨hi, nm_r (e' := upd c' L.length (nI b)) (by rw [hcl]) (nm_r (e' := nI (L.length + 1)) (nI_1 _) ⟨rfl, R⟩)⟩⟩))))
  · exact br_f h1 (br_f h2 (br_f h3 (br_f h4 (br_f h1 (br_f h2 (br_f h3 (br_f h4 ⟨rfl, I'⟩)))))))
theorem i_vc_sell {k : Nat} {u : SX} {v : SY} (I : i_Rel k u v) (hk : k + 3 ≤ 1537) (v1 : Int32) : wpX_sell (fun r u' => wpY_sell (fun r' v' => r' = r ∧ i_Rel (k + 3) u' v') v v1) u v1 := by
  have I' := i_up I
  obtain ⟨cap, L, q, c, q', c', rfl, rfl, h8, hL, hV, hR, hR'⟩ := I
  by_cases h1 : 1 ≤ v1
  · have h0 : ¬ v1 < 0 := Int32.not_lt.mpr (Int32.le_trans (by decide) h1)
    obtain ⟨a, ha, rfl⟩ := nI_of h0
    have a1 : 1 ≤ a := Nat.le_of_not_lt fun z => Int32.not_lt.mpr h1 (nI_lt (b := 1) z (by decide))
    have hS := fs_VS L a hV
    refine fs_xsell (Nat.le_trans hL h8) hV hR a1 ha (fun hT qa ca hRa => ?_) (fun hT => ?_)
    · refine fs_ysell (Nat.le_trans hL h8) hV hR' a1 ha (fun _ qb cb hRb => ⟨rfl, cap, (fs_S L a).2, qa, ca, qb, cb, rfl, rfl, h8, Nat.le_trans hS.2 hL, hS.1, hRa, hRb⟩) (fun z => absurd hT (Nat.not_le_of_lt z))
    · refine fs_ysell (Nat.le_trans hL h8) hV hR' a1 ha (fun z => absurd z (Nat.not_le_of_lt hT)) (fun _ => ⟨rfl, I'⟩)
  · exact br_f h1 (br_f h1 ⟨rfl, I'⟩)
theorem i_vc_lots {k : Nat} {u : SX} {v : SY} (I : i_Rel k u v) (hk : k + 3 ≤ 1537) : wpX_lots (fun r => wpY_lots (fun r' => r' = r ∧ i_Rel (k + 3) u v) v) u := by
  have I' := i_up I
  obtain ⟨cap, L, q, c, q', c', rfl, rfl, h8, hL, hV, hR, hR'⟩ := I
  exact ⟨rfl, I'⟩
theorem i_vc_lotQty {k : Nat} {u : SX} {v : SY} (I : i_Rel k u v) (hk : k + 3 ≤ 1537) (v1 : Int32) : wpX_lotQty (fun r => wpY_lotQty (fun r' => r' = r ∧ i_Rel (k + 3) u v) v v1) u v1 := by
  have I' := i_up I
  obtain ⟨cap, L, q, c, q', c', rfl, rfl, h8, hL, hV, hR, hR'⟩ := I
  by_cases h0 : v1 < 0
  · exact br_t h0 (br_t h0 ⟨rfl, I'⟩)
  by_cases h1 : v1 < nI L.length
  · obtain ⟨j, hj, rfl⟩ := nI_of h0
    have hjl : j < L.length := (nI_ltI hj (by omega)).mp h1
    have hi : vp_in (nI j) 8 := vp_in_nI (by omega) (by omega)
    have e := (fs_R2 L 0 hR hR' j hjl).1
    rw [Nat.zero_add] at e
    refine br_f h0 (br_t h1 ⟨hi, br_f h0 (br_t h1 ⟨hi, ?_, I'⟩)⟩)
    rw [nI_clamp hj]
    exact e
  · exact br_f h0 (br_f h1 (br_f h0 (br_f h1 ⟨rfl, I'⟩)))
theorem i_vc_lotCost {k : Nat} {u : SX} {v : SY} (I : i_Rel k u v) (hk : k + 3 ≤ 1537) (v1 : Int32) : wpX_lotCost (fun r => wpY_lotCost (fun r' => r' = r ∧ i_Rel (k + 3) u v) v v1) u v1 := by
  have I' := i_up I
  obtain ⟨cap, L, q, c, q', c', rfl, rfl, h8, hL, hV, hR, hR'⟩ := I
  by_cases h0 : v1 < 0
  · exact br_t h0 (br_t h0 ⟨rfl, I'⟩)
  by_cases h1 : v1 < nI L.length
  · obtain ⟨j, hj, rfl⟩ := nI_of h0
    have hjl : j < L.length := (nI_ltI hj (by omega)).mp h1
    have hi : vp_in (nI j) 8 := vp_in_nI (by omega) (by omega)
    have e := (fs_R2 L 0 hR hR' j hjl).2
    rw [Nat.zero_add] at e
    refine br_f h0 (br_t h1 ⟨hi, br_f h0 (br_t h1 ⟨hi, ?_, I'⟩)⟩)
    rw [nI_clamp hj]
    exact e
  · exact br_f h0 (br_f h1 (br_f h0 (br_f h1 ⟨rfl, I'⟩)))
end
