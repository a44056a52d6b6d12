section
/-! ===== the law of stable order, with no program in sight ===== -/
/-- the places j and j + 1 change their contents -/
def sx_sw {α : Type} (f : Nat → α) (j : Nat) : Nat → α := fun x => if x = j then f (j + 1) else if x = j + 1 then f j else f x
theorem sx_e0 {α : Type} {f : Nat → α} {j x : Nat} (h : x = j) : sx_sw f j x = f (j + 1) := if_pos h
theorem sx_e1 {α : Type} {f : Nat → α} {j x : Nat} (h : x = j + 1) : sx_sw f j x = f j := by
  have h0 : ¬ x = j := by omega
  unfold sx_sw
  rw [if_neg h0, if_pos h]
theorem sx_e2 {α : Type} {f : Nat → α} {j x : Nat} (h : x ≠ j) (h' : x ≠ j + 1) : sx_sw f j x = f x := by
  unfold sx_sw
  rw [if_neg h, if_neg h']
theorem sx_cs (j x : Nat) : x = j ∨ x = j + 1 ∨ (x ≠ j ∧ x ≠ j + 1) := by omega
/-- a swap of what an order reads is a swap of the order -/
theorem sx_co {f g : Nat → Int32} {p : Nat → Nat} (h : ∀ x, g x = f (p x)) (j x : Nat) : sx_sw g j x = f (sx_sw p j x) := by
  rcases sx_cs j x with hx | hx | ⟨hx, hx'⟩
  · rw [sx_e0 hx, sx_e0 hx]; exact h _
  · rw [sx_e1 hx, sx_e1 hx]; exact h _
  · rw [sx_e2 hx hx', sx_e2 hx hx']; exact h _
/-- (a', b') holds the pairs of (a, b) in the order p, pairs with equal keys in their first order -/
def sx_P (n : Nat) (a b a' b' : Nat → Int32) (p : Nat → Nat) : Prop :=
  (∀ x, a' x = a (p x)) ∧ (∀ x, b' x = b (p x)) ∧ (∀ x, n ≤ x → p x = x) ∧ (∀ x, x < n → p x < n) ∧
  (∀ y, y < n → ∃ x, x < n ∧ p x = y) ∧ (∀ x y, x < y → y < n → a' x = a' y → p x < p y)
def sx_ST (n : Nat) (a b a' b' : Nat → Int32) : Prop := ∃ p : Nat → Nat, sx_P n a b a' b' p
/-- the first n keys ascend -/
def sx_So (n : Nat) (f : Nat → Int32) : Prop := ∀ x y, x < y → y < n → (f x).toInt ≤ (f y).toInt
theorem sx_ST0 (n : Nat) (a b : Nat → Int32) : sx_ST n a b a b :=
  ⟨fun x => x, fun _ => rfl, fun _ => rfl, fun _ _ => rfl, fun _ h => h, fun y hy => ⟨y, hy, rfl⟩, fun _ _ h _ _ => h⟩
theorem sx_STs {n j : Nat} {a b a' b' : Nat → Int32} (h : sx_ST n a b a' b') (hj : j + 1 < n) (hl : (a' (j + 1)).toInt < (a' j).toInt) :
    sx_ST n a b (sx_sw a' j) (sx_sw b' j) := by
  obtain ⟨p, ha, hb, hf, hr, hs, ho⟩ := h
  refine ⟨sx_sw p j, fun x => sx_co ha j x, fun x => sx_co hb j x, ?_, ?_, ?_, ?_⟩
  · intro x hx
    rw [sx_e2 (by omega) (by omega)]
    exact hf x hx
  · intro x hx
    rcases sx_cs j x with h0 | h0 | ⟨h0, h1⟩
    · rw [sx_e0 h0]; exact hr _ hj
    · rw [sx_e1 h0]; exact hr _ (by omega)
    · rw [sx_e2 h0 h1]; exact hr _ hx
  · intro y hy
    obtain ⟨x, hx, e⟩ := hs y hy
    rcases sx_cs j x with h0 | h0 | ⟨h0, h1⟩
    · refine ⟨j + 1, hj, ?_⟩
      rw [sx_e1 rfl, ← h0]; exact e
    · refine ⟨j, by omega, ?_⟩
      rw [sx_e0 rfl, ← h0]; exact e
    · refine ⟨x, hx, ?_⟩
      rw [sx_e2 h0 h1]; exact e
  · intro x y hxy hy e
    rcases sx_cs j x with h0 | h0 | ⟨h0, h1⟩
    · rcases sx_cs j y with k0 | k0 | ⟨k0, k1⟩
      · omega
      · rw [sx_e0 h0, sx_e1 k0] at e
        rw [e] at hl
        omega
      · rw [sx_e0 h0, sx_e2 k0 k1] at e
        rw [sx_e0 h0, sx_e2 k0 k1]
        exact ho _ _ (by omega) hy e
    · rcases sx_cs j y with k0 | k0 | ⟨k0, k1⟩
      · omega
      · omega
      · rw [sx_e1 h0, sx_e2 k0 k1] at e
        rw [sx_e1 h0, sx_e2 k0 k1]
        exact ho _ _ (by omega) hy e
    · rcases sx_cs j y with k0 | k0 | ⟨k0, k1⟩
      · rw [sx_e2 h0 h1, sx_e0 k0] at e
        rw [sx_e2 h0 h1, sx_e0 k0]
        exact ho _ _ (by omega) hj e
      · rw [sx_e2 h0 h1, sx_e1 k0] at e
        rw [sx_e2 h0 h1, sx_e1 k0]
        exact ho _ _ (by omega) (by omega) e
      · rw [sx_e2 h0 h1, sx_e2 k0 k1] at e
        rw [sx_e2 h0 h1, sx_e2 k0 k1]
        exact ho _ _ hxy hy e
/-- in a sorted one the order goes up by key, then by first place -/
theorem sx_lex {n x y : Nat} {a b a' b' : Nat → Int32} {p : Nat → Nat} (h : sx_P n a b a' b' p) (s : sx_So n a') (hxy : x < y) (hy : y < n) :
    (a (p x)).toInt < (a (p y)).toInt ∨ ((a (p x)).toInt = (a (p y)).toInt ∧ p x < p y) := by
  obtain ⟨ha, _, _, _, _, ho⟩ := h
  have l := s x y hxy hy
  rw [ha x, ha y] at l
  rcases Int.lt_or_eq_of_le l with l | l
  · exact Or.inl l
  · refine Or.inr ⟨l, ho x y hxy hy ?_⟩
    rw [ha x, ha y]
    exact Int32.toInt_inj.mp l
/-- if p and q agree below x and q x differs from p x, then q x comes strictly ahead of p x -/
theorem sx_ahead {n x : Nat} {a b a' b' c d : Nat → Int32} {p q : Nat → Nat} (h : sx_P n a b a' b' p) (s : sx_So n a')
    (k : sx_P n a b c d q) (t : sx_So n c) (hx : x < n) (ih : ∀ z, z < x → p z = q z) (ne : p x ≠ q x) :
    (a (q x)).toInt < (a (p x)).toInt ∨ ((a (q x)).toInt = (a (p x)).toInt ∧ q x < p x) := by
  have hp : p x < n := h.2.2.2.1 x hx
  obtain ⟨y, hy, e⟩ := k.2.2.2.2.1 (p x) hp
  have hxy : x < y := by
    rcases Nat.lt_or_ge y x with g | g
    · have l := sx_lex h s g hx
      rw [ih y g, e] at l
      omega
    · rcases Nat.eq_or_lt_of_le g with g | g
      · rw [← g] at e
        exact absurd e.symm ne
      · exact g
  have l := sx_lex k t hxy hy
  rw [e] at l
  exact l
theorem sx_uq {n : Nat} {a b a' b' c d : Nat → Int32} {p q : Nat → Nat} (h : sx_P n a b a' b' p) (s : sx_So n a')
    (k : sx_P n a b c d q) (t : sx_So n c) (x : Nat) : x < n → p x = q x := by
  induction x using Nat.strongRecOn with
  | ind x ih =>
    intro hx
    rcases Nat.decEq (p x) (q x) with ne | e
    · have l := sx_ahead h s k t hx (fun z hz => ih z hz (by omega)) ne
      have m := sx_ahead k t h s hx (fun z hz => (ih z hz (by omega)).symm) (fun e => ne e.symm)
      omega
    · exact e
theorem sx_same {n : Nat} {a b a' b' c d : Nat → Int32} (h : sx_ST n a b a' b') (s : sx_So n a') (k : sx_ST n a b c d) (t : sx_So n c) :
    a' = c ∧ b' = d := by
  obtain ⟨p, hp⟩ := h
  obtain ⟨q, hq⟩ := k
  have e : ∀ x, p x = q x := by
    intro x
    rcases Nat.lt_or_ge x n with g | g
    · exact sx_uq hp s hq t x g
    · rw [hp.2.2.1 x g, hq.2.2.1 x g]
  constructor
  · funext x
    rw [hp.1 x, hq.1 x, e x]
  · funext x
    rw [hp.2.1 x, hq.2.1 x, e x]
/-! the two ways of writing an exchange -/
theorem sx_us {f : Nat → Int32} {k : Nat} {x : Int32} : upd f k x k = x := if_pos rfl
theorem sx_un {f : Nat → Int32} {k j : Nat} {x : Int32} (h : j ≠ k) : upd f k x j = f j := if_neg h
theorem sx_ud (f : Nat → Int32) (j : Nat) : upd (upd f j (f (j + 1))) (j + 1) (f j) = sx_sw f j := by
  funext x
  rcases sx_cs j x with h0 | h0 | ⟨h0, h1⟩
  · rw [sx_e0 h0, sx_un (by omega), h0, sx_us]
  · rw [sx_e1 h0, h0, sx_us]
  · rw [sx_e2 h0 h1, sx_un h1, sx_un h0]
theorem sx_uh (f : Nat → Int32) (j : Nat) (k : Int32) : upd (upd f (j + 1) (f j)) j k = sx_sw (upd f (j + 1) k) j := by
  funext x
  rcases sx_cs j x with h0 | h0 | ⟨h0, h1⟩
  · rw [sx_e0 h0, h0, sx_us, sx_us]
  · rw [sx_e1 h0, sx_un (by omega), h0, sx_us, sx_un (by omega)]
  · rw [sx_e2 h0 h1, sx_un h0, sx_un h1, sx_un h1]
theorem sx_uself (f : Nat → Int32) (j : Nat) : upd f j (f j) = f := by
  funext x
  rcases Nat.decEq x j with h | h
  · exact sx_un h
  · rw [h, sx_us]
end
section
/-! ===== the component's run: insertion, as exchanges of neighbours ===== -/
theorem sx_m1 (x : Int32) : x + (-1) + 1 = x := by
  rw [Int32.add_assoc]
  exact Int32.add_zero x
theorem sx_m2 (n : Nat) : nI (n + 1) + (-1) = nI n := by
  rw [nI_succ, Int32.add_assoc]
  exact Int32.add_zero _
theorem sx_nle {x y : Int32} (h : ¬ x ≤ y) : y.toInt < x.toInt := by
  rw [Int32.le_iff_toInt_le] at h
  omega
/-- V but for place h ascends up to i, and what stands behind h isn't below V h -/
def sx_Ho (i h : Nat) (V : Nat → Int32) : Prop :=
  (∀ x y, x < y → y ≤ i → x ≠ h → y ≠ h → (V x).toInt ≤ (V y).toInt) ∧ (∀ y, h < y → y ≤ i → (V h).toInt ≤ (V y).toInt)
theorem sx_Ho0 {i : Nat} {V : Nat → Int32} (h : sx_So i V) : sx_Ho i i V :=
  ⟨fun x y hxy hy _ hn => h x y hxy (by omega), fun y h1 h2 => by omega⟩
theorem sx_Hox {i h : Nat} {V : Nat → Int32} (H : sx_Ho i h V) (hx : ∀ g, h = g + 1 → (V g).toInt ≤ (V h).toInt) : sx_So (i + 1) V := by
  intro x y hxy hy
  rcases Nat.decEq y h with ny | ey
  · rcases Nat.decEq x h with nx | ex
    · exact H.1 x y hxy (by omega) nx ny
    · rw [ex]
      exact H.2 y (by omega) (by omega)
  · have l := hx (h - 1) (by omega)
    rw [ey]
    rcases Nat.decEq x (h - 1) with nx | ex
    · have m := H.1 x (h - 1) (by omega) (by omega) (by omega) (by omega)
      omega
    · rw [ex]
      exact l
theorem sx_Hos {i g : Nat} {V : Nat → Int32} (H : sx_Ho i (g + 1) V) (hl : (V (g + 1)).toInt < (V g).toInt) : sx_Ho i g (sx_sw V g) := by
  constructor
  · intro x y hxy hy hx hy'
    rcases sx_cs g x with h0 | h0 | ⟨h0, h1⟩
    · exact absurd h0 hx
    · rw [sx_e1 h0, sx_e2 hy' (by omega)]
      exact H.1 g y (by omega) hy (by omega) (by omega)
    · rcases sx_cs g y with k0 | k0 | ⟨k0, k1⟩
      · exact absurd k0 hy'
      · rw [sx_e2 h0 h1, sx_e1 k0]
        exact H.1 x g (by omega) (by omega) h1 (by omega)
      · rw [sx_e2 h0 h1, sx_e2 k0 k1]
        exact H.1 x y hxy hy h1 k1
  · intro y h1 h2
    rw [sx_e0 rfl]
    rcases sx_cs g y with k0 | k0 | ⟨k0, k1⟩
    · omega
    · rw [sx_e1 k0]
      omega
    · rw [sx_e2 k0 k1]
      exact H.2 y (by omega) h2
theorem sx_83 {post : SX → Prop} {J2 : Int32 → (Nat → Int32) → (Nat → Int32) → Prop} {i h n : Nat} {k t : Int32} {ks ts : Nat → Int32}
    (hh : h < 24) (hc : J2 (nI (i + 1)) (upd ks h k) (upd ts h t)) : wX_run_83 post J2 (nI i) k t (nI h + (-1)) (nI n) ks ts := by
  have i0 : vp_in (nI h + (-1) + 1) 24 := by
    rw [sx_m1]
    exact vp_in_nI hh (by omega)
  have c0 : (nI h + (-1) + 1).toNatClampNeg = h := by
    rw [sx_m1]
    exact nI_clamp (by omega)
  refine ⟨i0, fun a ea => ⟨i0, fun b eb => fun y ey => ?_⟩⟩
  rw [c0] at ea eb
  rw [ea, eb, ey, nI_1]
  exact hc
theorem sx_in {post : SX → Prop} {J2 : Int32 → (Nat → Int32) → (Nat → Int32) → Prop} {n i : Nat} {k t : Int32} {a b : Nat → Int32}
    (hn : n ≤ 24) (hi : i < n) (hc : ∀ V W : Nat → Int32, sx_ST n a b V W → sx_So (i + 1) V → J2 (nI (i + 1)) V W) (h : Nat) :
    ∀ (ks ts : Nat → Int32) (m : Nat), h ≤ i → sx_ST n a b (upd ks h k) (upd ts h t) → sx_Ho i h (upd ks h k) → h < m →
      wX_run_29 post J2 (nI i) k t (nI n) m (nI h + (-1)) ks ts := by
  induction h with
  | zero =>
    intro ks ts m hi' hS hH hm
    cases m with
    | zero => omega
    | succ m =>
      have l : nI 0 + (-1) < 0 := by decide
      exact br_t l (sx_83 (by omega) (hc _ _ hS (sx_Hox hH (fun g hg => by omega))))
  | succ g ih =>
    intro ks ts m hi' hS hH hm
    cases m with
    | zero => omega
    | succ m =>
      have l : ¬ nI (g + 1) + (-1) < 0 := by
        rw [sx_m2]
        exact nI_pos (by omega)
      have i0 : vp_in (nI (g + 1) + (-1)) 24 := by
        rw [sx_m2]
        exact vp_in_nI (by omega) (by omega)
      have c0 : (nI (g + 1) + (-1)).toNatClampNeg = g := by
        rw [sx_m2]
        exact nI_clamp (by omega)
      have i1 : vp_in (nI (g + 1) + (-1) + 1) 24 := by
        rw [sx_m1]
        exact vp_in_nI (by omega) (by omega)
      have c1 : (nI (g + 1) + (-1) + 1).toNatClampNeg = g + 1 := by
        rw [sx_m1]
        exact nI_clamp (by omega)
      have v0 : upd ks (g + 1) k g = ks g := sx_un (by omega)
      have v1 : upd ks (g + 1) k (g + 1) = k := sx_us
      refine br_f l ⟨i0, br_c (fun le => ?_) (fun nl => ⟨i0, i1, fun a2 ea => ⟨i0, i1, fun b2 eb => fun y ey => ?_⟩⟩)⟩
      · rw [c0] at le
        refine sx_83 (by omega) (hc _ _ hS (sx_Hox hH (fun g' hg => ?_)))
        have e : g' = g := by omega
        rw [e, v0, v1]
        exact Int32.le_iff_toInt_le.mp le
      · rw [c0] at nl
        rw [c0, c1] at ea eb
        have lt : (upd ks (g + 1) k (g + 1)).toInt < (upd ks (g + 1) k g).toInt := by
          rw [v0, v1]
          exact sx_nle nl
        have S := sx_STs hS (j := g) (by omega) lt
        have H := sx_Hos hH lt
        rw [← sx_uh ks g k] at S H
        rw [← sx_uh ts g t] at S
        rw [ey, sx_m2, ea, eb]
        exact ih _ _ m (by omega) S H (by omega)
theorem sx_out {post : SX → Prop} {n : Nat} {a b : Nat → Int32} (hn : n ≤ 24)
    (hc : ∀ V W : Nat → Int32, sx_ST n a b V W → sx_So n V → post (nI n, V, W)) (d : Nat) :
    ∀ (i : Nat) (ks ts : Nat → Int32), i ≤ 24 → n ≤ i + d → sx_ST n a b ks ts → sx_So i ks → wX_run_2 post (nI n) (d + 1) (nI i) ks ts := by
  induction d with
  | zero =>
    intro i ks ts hi hd hS hO
    have l : nI n ≤ nI i := nI_le (by omega) (by omega)
    exact br_t l (hc _ _ hS (fun x y h1 h2 => hO x y h1 (by omega)))
  | succ d ih =>
    intro i ks ts hi hd hS hO
    rcases Nat.lt_or_ge i n with g | g
    · have l : ¬ nI n ≤ nI i := nI_ge g (by omega)
      have i0 : vp_in (nI i) 24 := vp_in_nI (by omega) (by omega)
      have c0 : (nI i).toNatClampNeg = i := nI_clamp (by omega)
      refine br_f l ⟨i0, fun k ek => ⟨i0, fun t et => fun y ey => ⟨i + 1, ?_⟩⟩⟩
      rw [c0] at ek et
      have e : nI i - 1 = nI i + (-1) := by rw [Int32.sub_eq_add_neg]
      rw [ey, e]
      have S : sx_ST n a b (upd ks i k) (upd ts i t) := by
        rw [ek, et, sx_uself, sx_uself]
        exact hS
      have H : sx_Ho i i (upd ks i k) := by
        rw [ek, sx_uself]
        exact sx_Ho0 hO
      exact sx_in (a := a) (b := b) hn g (fun V W s o => ih (i + 1) V W (by omega) (by omega) s o) i ks ts (i + 1) (by omega) S H (by omega)
    · have l : nI n ≤ nI i := nI_le g (by omega)
      exact br_t l (hc _ _ hS (fun x y h1 h2 => hO x y h1 (by omega)))
/-- run on the component: whatever holds of the sorted, stably ordered pairs -/
theorem sx_run {post : SX → Prop} {n : Nat} {a b : Nat → Int32} (hn : n ≤ 24)
    (hc : ∀ V W : Nat → Int32, sx_ST n a b V W → sx_So n V → post (nI n, V, W)) : wpX_run post (nI n, a, b) := by
  refine ⟨n + 1, ?_⟩
  exact sx_out hn hc n 1 a b (by omega) (by omega) (sx_ST0 n a b) (fun x y h1 h2 => by omega)
end
section
/-! ===== the reference's run: n bubble passes ===== -/
/-- the last s places are settled: nothing ahead of them is greater -/
def sy_B (n s : Nat) (f : Nat → Int32) : Prop := ∀ x y, x < y → y < n → n ≤ y + s → (f x).toInt ≤ (f y).toInt
/-- place j holds the greatest key so far, and if it has reached the next place to settle, that one is settled -/
def sy_A (n s j : Nat) (f : Nat → Int32) : Prop :=
  (∀ x, x < j → (f x).toInt ≤ (f j).toInt) ∧ (∀ x y, x < y → y < n → n ≤ y + s + 1 → y ≤ j → (f x).toInt ≤ (f y).toInt)
theorem sy_A0 (n s : Nat) (f : Nat → Int32) : sy_A n s 0 f := ⟨fun x h => by omega, fun x y h1 _ _ h2 => by omega⟩
theorem sy_Ax {n s j : Nat} {f : Nat → Int32} (h : sy_A n s j f) (hj : n ≤ j + 1) : sy_B n (s + 1) f :=
  fun x y h1 h2 h3 => h.2 x y h1 h2 (by omega) (by omega)
theorem sy_Ak {n s j : Nat} {f : Nat → Int32} (h : sy_A n s j f) (hl : (f j).toInt ≤ (f (j + 1)).toInt) : sy_A n s (j + 1) f := by
  have A : ∀ x, x < j + 1 → (f x).toInt ≤ (f (j + 1)).toInt := by
    intro x hx
    rcases Nat.decEq x j with nx | ex
    · have l := h.1 x (by omega)
      omega
    · rw [ex]
      exact hl
  refine ⟨A, fun x y h1 h2 h3 h4 => ?_⟩
  rcases Nat.decEq y (j + 1) with ny | ey
  · exact h.2 x y h1 h2 h3 (by omega)
  · rw [ey]
    exact A x (by omega)
theorem sy_far {n s j : Nat} {f : Nat → Int32} (hB : sy_B n s f) (hj : j + 1 < n) (hl : (f (j + 1)).toInt < (f j).toInt) : j + 1 + s < n := by
  rcases Nat.lt_or_ge (j + 1 + s) n with g | g
  · exact g
  · have l := hB j (j + 1) (by omega) hj g
    omega
theorem sy_As {n s j : Nat} {f : Nat → Int32} (h : sy_A n s j f) (hB : sy_B n s f) (hj : j + 1 < n) (hl : (f (j + 1)).toInt < (f j).toInt) :
    sy_A n s (j + 1) (sx_sw f j) := by
  have F := sy_far hB hj hl
  have A : ∀ x, x < j + 1 → (sx_sw f j x).toInt ≤ (sx_sw f j (j + 1)).toInt := by
    intro x hx
    rw [sx_e1 (x := j + 1) rfl]
    rcases Nat.decEq x j with nx | ex
    · rw [sx_e2 nx (by omega)]
      exact h.1 x (by omega)
    · rw [sx_e0 ex]
      omega
  refine ⟨A, fun x y h1 h2 h3 h4 => ?_⟩
  have ey : y = j + 1 := by omega
  rw [ey]
  exact A x (by omega)
theorem sy_Bs {n s j : Nat} {f : Nat → Int32} (hB : sy_B n s f) (hj : j + 1 < n) (hl : (f (j + 1)).toInt < (f j).toInt) : sy_B n s (sx_sw f j) := by
  have F := sy_far hB hj hl
  intro x y h1 h2 h3
  rw [sx_e2 (x := y) (by omega) (by omega)]
  rcases sx_cs j x with h0 | h0 | ⟨h0, h0'⟩
  · rw [sx_e0 h0]
    exact hB (j + 1) y (by omega) h2 h3
  · rw [sx_e1 h0]
    exact hB j y (by omega) h2 h3
  · rw [sx_e2 h0 h0']
    exact hB x y h1 h2 h3
theorem sy_s1 {post : SY → Prop} {J2 : Int32 → (Nat → Int32) → (Nat → Int32) → Prop} {s n j d : Nat} {K T : Nat → Int32}
    (hj : j < 24) (h : n ≤ j + 1) (hc : J2 (nI (s + 1)) K T) : wY_run_12 post J2 (nI s) (nI n) (d + 1) (nI j) K T := by
  have e : nI n ≤ nI j + 1 := by
    rw [nI_1]
    exact nI_le h (by omega)
  exact br_t e (nm_r (nI_1 s) hc)
theorem sy_s2 {post : SY → Prop} {J2 : Int32 → (Nat → Int32) → (Nat → Int32) → Prop} {s n j d : Nat} {K T : Nat → Int32}
    (hn : n ≤ 24) (h : j + 1 < n) (hl : K j ≤ K (j + 1)) (hc : wY_run_12 post J2 (nI s) (nI n) d (nI (j + 1)) K T) :
    wY_run_12 post J2 (nI s) (nI n) (d + 1) (nI j) K T := by
  have e : ¬ nI n ≤ nI j + 1 := by
    rw [nI_1]
    exact nI_ge h (by omega)
  have i0 : vp_in (nI j) 24 := vp_in_nI (by omega) (by omega)
  have i1 : vp_in (nI j + 1) 24 := by
    rw [nI_1]
    exact vp_in_nI (by omega) (by omega)
  have c0 : (nI j).toNatClampNeg = j := nI_clamp (by omega)
  have c1 : (nI j + 1).toNatClampNeg = j + 1 := by
    rw [nI_1]
    exact nI_clamp (by omega)
  have l : K (nI j).toNatClampNeg ≤ K (nI j + 1).toNatClampNeg := by
    rw [c0, c1]
    exact hl
  exact br_f e ⟨i0, i1, br_t l (nm_r (nI_1 j) hc)⟩
theorem sy_s3 {post : SY → Prop} {J2 : Int32 → (Nat → Int32) → (Nat → Int32) → Prop} {s n j d : Nat} {K T : Nat → Int32}
    (hn : n ≤ 24) (h : j + 1 < n) (hl : ¬ K j ≤ K (j + 1)) (hc : wY_run_12 post J2 (nI s) (nI n) d (nI (j + 1)) (sx_sw K j) (sx_sw T j)) :
    wY_run_12 post J2 (nI s) (nI n) (d + 1) (nI j) K T := by
  have e : ¬ nI n ≤ nI j + 1 := by
    rw [nI_1]
    exact nI_ge h (by omega)
  have i0 : vp_in (nI j) 24 := vp_in_nI (by omega) (by omega)
  have i1 : vp_in (nI j + 1) 24 := by
    rw [nI_1]
    exact vp_in_nI (by omega) (by omega)
  have c0 : (nI j).toNatClampNeg = j := nI_clamp (by omega)
  have c1 : (nI j + 1).toNatClampNeg = j + 1 := by
    rw [nI_1]
    exact nI_clamp (by omega)
  have l : ¬ K (nI j).toNatClampNeg ≤ K (nI j + 1).toNatClampNeg := by
    rw [c0, c1]
    exact hl
  refine br_f e ⟨i0, i1, br_f l ⟨i0, fun x3 e3 => ⟨i1, i0, fun k1 ek1 => ⟨i1, fun k2 ek2 => ⟨i0, fun x4 e4 => ⟨i1, i0, fun t1 et1 => ⟨i1, fun t2 et2 => fun y ey => ?_⟩⟩⟩⟩⟩⟩⟩
  have EK : k2 = sx_sw K j := by
    rw [ek2, ek1, e3, c0, c1]
    exact sx_ud K j
  have ET : t2 = sx_sw T j := by
    rw [et2, et1, e4, c0, c1]
    exact sx_ud T j
  rw [EK, ET, ey, nI_1]
  exact hc
theorem sy_in {post : SY → Prop} {J2 : Int32 → (Nat → Int32) → (Nat → Int32) → Prop} {n s : Nat} {a b : Nat → Int32} (hn : n ≤ 24)
    (hc : ∀ V W : Nat → Int32, sx_ST n a b V W → sy_B n (s + 1) V → J2 (nI (s + 1)) V W) (d : Nat) :
    ∀ (j : Nat) (K T : Nat → Int32), j < 24 → n ≤ j + 1 + d → sx_ST n a b K T → sy_B n s K → sy_A n s j K →
      wY_run_12 post J2 (nI s) (nI n) (d + 1) (nI j) K T := by
  induction d with
  | zero =>
    intro j K T hj hd hS hB hA
    exact sy_s1 hj (by omega) (hc _ _ hS (sy_Ax hA (by omega)))
  | succ d ih =>
    intro j K T hj hd hS hB hA
    rcases Nat.lt_or_ge (j + 1) n with g | g
    · by_cases l : K j ≤ K (j + 1)
      · exact sy_s2 hn g l (ih (j + 1) K T (by omega) (by omega) hS hB (sy_Ak hA (Int32.le_iff_toInt_le.mp l)))
      · have lt := sx_nle l
        exact sy_s3 hn g l (ih (j + 1) _ _ (by omega) (by omega) (sx_STs hS g lt) (sy_Bs hB g lt) (sy_As hA hB g lt))
    · exact sy_s1 hj g (hc _ _ hS (sy_Ax hA g))
theorem sy_out {post : SY → Prop} {n : Nat} {a b : Nat → Int32} (hn : n ≤ 24)
    (hc : ∀ V W : Nat → Int32, sx_ST n a b V W → sx_So n V → post (nI n, V, W)) (d : Nat) :
    ∀ (s : Nat) (K T : Nat → Int32), s ≤ 24 → n ≤ s + d → sx_ST n a b K T → sy_B n s K → wY_run_2 post (nI n) (d + 1) (nI s) K T := by
  induction d with
  | zero =>
    intro s K T hs hd hS hB
    have l : nI n ≤ nI s := nI_le (by omega) (by omega)
    exact br_t l (hc _ _ hS (fun x y h1 h2 => hB x y h1 h2 (by omega)))
  | succ d ih =>
    intro s K T hs hd hS hB
    rcases Nat.lt_or_ge s n with g | g
    · have l : ¬ nI n ≤ nI s := nI_ge g (by omega)
      refine br_f l ⟨n + 1, ?_⟩
      rw [← nI_0]
      exact sy_in (a := a) (b := b) hn (fun V W S B => ih (s + 1) V W (by omega) (by omega) S B) n 0 K T (by omega) (by omega) hS hB (sy_A0 n s K)
    · have l : nI n ≤ nI s := nI_le g (by omega)
      exact br_t l (hc _ _ hS (fun x y h1 h2 => hB x y h1 h2 (by omega)))
/-- run on the reference: whatever holds of the sorted, stably ordered pairs -/
theorem sy_run {post : SY → Prop} {n : Nat} {a b : Nat → Int32} (hn : n ≤ 24)
    (hc : ∀ V W : Nat → Int32, sx_ST n a b V W → sx_So n V → post (nI n, V, W)) : wpY_run post (nI n, a, b) := by
  refine ⟨n + 1, ?_⟩
  rw [← nI_0]
  exact sy_out hn hc n 0 a b (by omega) (by omega) (sx_ST0 n a b) (fun x y h1 h2 h3 => by omega)
end
section
/-- both hold the same pairs, at most 24 of them -/
def i_Rel (_ : Nat) (u : SX) (v : SY) : Prop := ∃ (n : Nat) (a b : Nat → Int32), n ≤ 24 ∧ u = (nI n, a, b) ∧ v = (nI n, a, b)
theorem i_up {k : Nat} {u : SX} {v : SY} (h : i_Rel k u v) : i_Rel (k + 4) u v := h
theorem i_vc0 (k0 : Int32) : wpX_init (fun u => wpY_init (fun v => i_Rel 1 u v) k0) k0 := by
  by_cases h0 : 0 ≤ k0
  · by_cases h1 : k0 ≤ 24
    · obtain ⟨j, hj, rfl⟩ := nI_of2 (x := k0) (M := 24) (n := 24) (by decide) (Int32.not_lt.mpr h0) h1
      exact br_t h0 (br_t h1 (br_t h0 (br_t h1 ⟨j, _, _, hj, rfl, rfl⟩)))
    · exact br_t h0 (br_f h1 (br_t h0 (br_f h1 ⟨24, _, _, Nat.le_refl _, rfl, rfl⟩)))
  · have h1 : (0 : Int32) ≤ 24 := by decide
    exact br_f h0 (br_t h1 (br_f h0 (br_t h1 ⟨0, _, _, Nat.zero_le _, rfl, rfl⟩)))
theorem i_vc_size {k : Nat} {u : SX} {v : SY} (I : i_Rel k u v) (hk : k + 4 ≤ 2049) : wpX_size (fun r => wpY_size (fun r' => r' = r ∧ i_Rel (k + 4) u v) v) u := by
  obtain ⟨n, a, b, hn, rfl, rfl⟩ := I
  exact ⟨rfl, n, a, b, hn, rfl, rfl⟩
theorem sx_ix {n : Nat} {x : Int32} (hn : n ≤ 24) (h0 : ¬ x < 0) (h : x < nI n) : vp_in x 24 := by
  obtain ⟨j, hj, rfl⟩ := nI_of h0
  rw [nI_ltI hj (by omega)] at h
  exact vp_in_nI (by omega) (by omega)
theorem i_vc_put {k : Nat} {u : SX} {v : SY} (I : i_Rel k u v) (hk : k + 4 ≤ 2049) (v1 : Int32) (v2 : Int32) (v3 : Int32) : wpX_put (fun r u' => wpY_put (fun r' v' => r' = r ∧ i_Rel (k + 4) u' v') v v1 v2 v3) u v1 v2 v3 := by
  obtain ⟨n, a, b, hn, rfl, rfl⟩ := I
  by_cases h0 : v1 < 0
  · exact br_t h0 (br_t h0 ⟨rfl, n, a, b, hn, rfl, rfl⟩)
  · by_cases h1 : v1 < nI n
    · have hi := sx_ix hn h0 h1
      refine br_f h0 (br_t h1 ⟨hi, fun c ec => ⟨hi, fun d ed => br_f h0 (br_t h1 ⟨hi, fun c' ec' => ⟨hi, fun d' ed' => ⟨rfl, n, c, d, hn, rfl, ?_⟩⟩⟩)⟩⟩)
      rw [ec', ed', ec, ed]
    · exact br_f h0 (br_f h1 (br_f h0 (br_f h1 ⟨rfl, n, a, b, hn, rfl, rfl⟩)))
theorem i_vc_run {k : Nat} {u : SX} {v : SY} (I : i_Rel k u v) (hk : k + 4 ≤ 2049) : wpX_run (fun u' => wpY_run (fun v' => i_Rel (k + 4) u' v') v) u := by
  obtain ⟨n, a, b, hn, rfl, rfl⟩ := I
  refine sx_run hn (fun V W S O => sy_run hn (fun V' W' S' O' => ?_))
  obtain ⟨e1, e2⟩ := sx_same S O S' O'
  exact ⟨n, V, W, hn, rfl, by rw [e1, e2]⟩
theorem i_vc_key {k : Nat} {u : SX} {v : SY} (I : i_Rel k u v) (hk : k + 4 ≤ 2049) (v1 : Int32) : wpX_key (fun r => wpY_key (fun r' => r' = r ∧ i_Rel (k + 4) u v) v v1) u v1 := by
  obtain ⟨n, a, b, hn, rfl, rfl⟩ := I
  by_cases h0 : v1 < 0
  · exact br_t h0 (br_t h0 ⟨rfl, n, a, b, hn, rfl, rfl⟩)
  · by_cases h1 : v1 < nI n
    · have hi := sx_ix hn h0 h1
      exact br_f h0 (br_t h1 ⟨hi, br_f h0 (br_t h1 ⟨hi, rfl, n, a, b, hn, rfl, rfl⟩)⟩)
    · exact br_f h0 (br_f h1 (br_f h0 (br_f h1 ⟨rfl, n, a, b, hn, rfl, rfl⟩)))
theorem i_vc_tag {k : Nat} {u : SX} {v : SY} (I : i_Rel k u v) (hk : k + 4 ≤ 2049) (v1 : Int32) : wpX_tag (fun r => wpY_tag (fun r' => r' = r ∧ i_Rel (k + 4) u v) v v1) u v1 := by
  obtain ⟨n, a, b, hn, rfl, rfl⟩ := I
  by_cases h0 : v1 < 0
  · exact br_t h0 (br_t h0 ⟨rfl, n, a, b, hn, rfl, rfl⟩)
  · by_cases h1 : v1 < nI n
    · have hi := sx_ix hn h0 h1
      exact br_f h0 (br_t h1 ⟨hi, br_f h0 (br_t h1 ⟨hi, rfl, n, a, b, hn, rfl, rfl⟩)⟩)
    · exact br_f h0 (br_f h1 (br_f h0 (br_f h1 ⟨rfl, n, a, b, hn, rfl, rfl⟩)))
end
