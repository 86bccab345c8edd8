
set_option maxRecDepth 100000
/-! STAGE 2, numbers and weakest preconditions -/
theorem zi_ex (a : Int32) : ∃ n : Int, a = zi n ∧ -2147483648 ≤ n ∧ n < 2147483648 :=
  ⟨a.toInt, (Int32.ofInt_toInt a).symm, a.le_toInt, a.toInt_lt⟩
theorem zi_toInt {n : Int} (h1 : -2147483648 ≤ n) (h2 : n < 2147483648) : (zi n).toInt = n := by
  unfold zi
  rw [Int32.toInt_ofInt]
  show n.bmod 4294967296 = n
  rw [Int.bmod_eq_of_le] <;> omega
theorem zi_add (a b : Int) : zi a + zi b = zi (a + b) := by unfold zi; rw [Int32.ofInt_add]
theorem zi_sub (a b : Int) : zi a - zi b = zi (a - b) := by unfold zi; rw [Int32.ofInt_sub]
theorem zi_mul (a b : Int) : zi a * zi b = zi (a * b) := by unfold zi; rw [Int32.ofInt_mul]
theorem zi_neg (a : Int) : - zi a = zi (- a) := by unfold zi; rw [Int32.ofInt_neg]
theorem zi_lt {a b : Int} (h1 : -2147483648 ≤ a) (h2 : a < 2147483648) (h3 : -2147483648 ≤ b) (h4 : b < 2147483648) : (zi a < zi b) = (a < b) := by
  rw [Int32.lt_iff_toInt_lt, zi_toInt h1 h2, zi_toInt h3 h4]
theorem zi_le {a b : Int} (h1 : -2147483648 ≤ a) (h2 : a < 2147483648) (h3 : -2147483648 ≤ b) (h4 : b < 2147483648) : (zi a ≤ zi b) = (a ≤ b) := by
  rw [Int32.le_iff_toInt_le, zi_toInt h1 h2, zi_toInt h3 h4]
theorem zi_eq {a b : Int} (h1 : -2147483648 ≤ a) (h2 : a < 2147483648) (h3 : -2147483648 ≤ b) (h4 : b < 2147483648) : (zi a = zi b) = (a = b) := by
  rw [← Int32.toInt_inj, zi_toInt h1 h2, zi_toInt h3 h4]
theorem zi_tn {a : Int} (h1 : 0 ≤ a) (h2 : a < 2147483648) : (zi a).toNatClampNeg = a.toNat := by
  rw [← Int32.toNat_toInt, zi_toInt (by omega) h2]
theorem zi_0 : (0 : Int32) = zi 0 := rfl
theorem zi_1 : (1 : Int32) = zi 1 := rfl
/-- an index in its row -/
theorem zi_in {a : Int} {n : Nat} (h1 : 0 ≤ a) (h2 : a < n) (h3 : n ≤ 2147483648) : ¬ (zi a < 0 ∨ n ≤ (zi a).toNatClampNeg) := by
  rw [zi_0, zi_lt (by omega) (by omega) (by omega) (by omega), zi_tn h1 (by omega)]
  omega
/-- what a run comes to -/
def wp {τ α : Type} (f : zN τ α) (S : τ) (Q : α → τ → Prop) : Prop := ∃ v S', f S = some (v, S') ∧ Q v S'
section WP
variable {τ α β σ ε γ : Type} {S : τ} {Q : β → τ → Prop}
theorem wp_P {v : β} : wp (nP v) S Q = Q v S := by
  apply propext; constructor
  · rintro ⟨w, S', h, q⟩; obtain ⟨rfl, rfl⟩ := z_p h; exact q
  · exact fun q => ⟨v, S, rfl, q⟩
theorem wp_B {m : zN τ α} {k : α → zN τ β} : wp (nB m k) S Q = wp m S (fun v S' => wp (k v) S' Q) := by
  apply propext; constructor
  · rintro ⟨w, S', h, q⟩; obtain ⟨v, S1, h1, h2⟩ := nB_some h; exact ⟨v, S1, h1, w, S', h2, q⟩
  · rintro ⟨v, S1, h1, w, S', h2, q⟩; exact ⟨w, S', by unfold nB; rw [h1]; exact h2, q⟩
theorem wp_E {v : α} {k : α → zN τ β} : wp (nE v k) S Q = wp (k v) S Q := rfl
theorem wp_X : wp nX S Q = False := by
  apply propext; constructor
  · rintro ⟨w, S', h, q⟩; cases h
  · exact False.elim
theorem wp_I {c : Prop} [Decidable c] {a b : zN τ β} : wp (if c then a else b) S Q = if c then wp a S Q else wp b S Q := by split <;> rfl
theorem wp_t {c : Prop} [Decidable c] {a b : zN τ β} (hc : c) (h : wp a S Q) : wp (if c then a else b) S Q := by rw [if_pos hc]; exact h
theorem wp_f {c : Prop} [Decidable c] {a b : zN τ β} (hc : ¬ c) (h : wp b S Q) : wp (if c then a else b) S Q := by rw [if_neg hc]; exact h
theorem wp_c {c : Prop} [Decidable c] {a b : zN τ β} (h1 : c → wp a S Q) (h2 : ¬ c → wp b S Q) : wp (if c then a else b) S Q := by
  split
  · exact h1 ‹_›
  · exact h2 ‹_›
theorem wp_C {c : Prop} [Decidable c] {k : zN τ β} : wp (nC c k) S Q = (c ∧ wp k S Q) := by
  apply propext; unfold nC
  by_cases h : c
  · rw [if_pos h]; exact ⟨fun q => ⟨h, q⟩, fun q => q.2⟩
  · rw [if_neg h, wp_X]; exact ⟨fun q => q.elim, fun q => h q.1⟩
theorem wp_Dl {f : α → zN τ β} {g : γ → zN τ β} {a : α} : wp (nD f g (.inl a)) S Q = wp (f a) S Q := rfl
theorem wp_Dr {f : α → zN τ β} {g : γ → zN τ β} {b : γ} : wp (nD f g (.inr b)) S Q = wp (g b) S Q := rfl
theorem wp_D {f : α → zN τ β} {g : γ → zN τ β} {x : α ⊕ γ} : wp (nD f g x) S Q = match x with
    | .inl a => wp (f a) S Q
    | .inr b => wp (g b) S Q := by cases x <;> rfl
theorem wp.up {m : zN τ β} {Q' : β → τ → Prop} (h : wp m S Q) (hq : ∀ v S', Q v S' → Q' v S') : wp m S Q' := by
  obtain ⟨v, S', h1, h2⟩ := h; exact ⟨v, S', h1, hq v S' h2⟩
theorem wp.B {m : zN τ α} {R : α → τ → Prop} {k : α → zN τ β} (h : wp m S R) (hk : ∀ v S', R v S' → wp (k v) S' Q) : wp (nB m k) S Q := by
  rw [wp_B]; exact h.up hk
theorem wp.and {m : zN τ β} {Q' : β → τ → Prop} (h : wp m S Q) (h' : wp m S Q') : wp m S (fun v T => Q v T ∧ Q' v T) := by
  obtain ⟨v, S', h1, h2⟩ := h
  obtain ⟨w, T, h3, h4⟩ := h'
  cases h1.symm.trans h3
  exact ⟨v, S', h1, h2, h4⟩
/-- a loop whose measure falls -/
theorem wp_lp {body : σ → zN τ (σ ⊕ ε)} {Q : ε → τ → Prop} (I : σ → τ → Prop) (μ : σ → τ → Nat) {s : σ} (h0 : I s S)
    (step : ∀ s S, I s S → wp (body s) S (fun r S' => match r with
      | .inl s' => I s' S' ∧ μ s' S' < μ s S
      | .inr e => Q e S')) : wp (nLp body s) S Q := by
  generalize hn : μ s S = n
  induction n using Nat.strongRecOn generalizing s S with
  | ind n ih =>
    obtain ⟨r, S', h1, h2⟩ := step s S h0
    cases r with
    | inl s' =>
      obtain ⟨v, S2, h3, h4⟩ := ih _ (by rw [← hn]; exact h2.2) h2.1 rfl
      exact ⟨v, S2, by rw [nLp_eq, h1]; exact h3, h4⟩
    | inr e => exact ⟨e, S', by rw [nLp_eq, h1]; rfl, h2⟩
/-- a loop that counts -/
theorem wp_for {body : σ → zN τ (σ ⊕ ε)} {Q : ε → τ → Prop} (I : Nat → σ → τ → Prop) (N : Nat) {s : σ} (h0 : I 0 s S)
    (step : ∀ i s S, i ≤ N → I i s S → wp (body s) S (fun r S' => match r with
      | .inl s' => i < N ∧ I (i + 1) s' S'
      | .inr e => Q e S')) : wp (nLp body s) S Q := by
  have key : ∀ k i s S, i + k = N → I i s S → wp (nLp body s) S Q := by
    intro k
    induction k with
    | zero =>
      intro i s S hi hI
      obtain ⟨r, S', h1, h2⟩ := step i s S (by omega) hI
      cases r with
      | inl s' => exact absurd h2.1 (by omega)
      | inr e => exact ⟨e, S', by rw [nLp_eq, h1]; rfl, h2⟩
    | succ k ih =>
      intro i s S hi hI
      obtain ⟨r, S', h1, h2⟩ := step i s S (by omega) hI
      cases r with
      | inl s' =>
        obtain ⟨v, S2, h3, h4⟩ := ih (i + 1) s' S' (by omega) h2.2
        exact ⟨v, S2, by rw [nLp_eq, h1]; exact h3, h4⟩
      | inr e => exact ⟨e, S', by rw [nLp_eq, h1]; rfl, h2⟩
  exact key N 0 s S (by omega) h0
end WP
/-! the model's operations -/
section WM
variable {β : Type} {S : zS}
theorem wp_mF {Q : Int32 → zS → Prop} {k : Nat} : wp (mF k) S Q = Q (S.1 k) S := by
  apply propext; constructor
  · rintro ⟨w, S', h, q⟩; cases h; exact q
  · exact fun q => ⟨_, _, rfl, q⟩
theorem wp_mW {Q : Unit → zS → Prop} {k : Nat} {v : Int32} : wp (mW k v) S Q = Q () (upd S.1 k v, S.2) := by
  apply propext; constructor
  · rintro ⟨w, S', h, q⟩; cases h; exact q
  · exact fun q => ⟨_, _, rfl, q⟩
theorem wp_mA {Q : Int32 → zS → Prop} {k : Nat} {i : Int} (h1 : 0 ≤ i) (h2 : i < zlen k) (h3 : zlen k ≤ 2147483648) : wp (mA k (zi i)) S Q = Q (S.2 k i.toNat) S := by
  have e : mA k (zi i) S = some (S.2 k i.toNat, S) := by unfold mA; rw [if_neg (zi_in h1 h2 h3), zi_tn h1 (by omega)]
  apply propext; constructor
  · rintro ⟨w, S', h, q⟩; rw [e] at h; cases h; exact q
  · exact fun q => ⟨_, _, e, q⟩
theorem wp_mS {Q : Unit → zS → Prop} {k : Nat} {i : Int} {v : Int32} (h1 : 0 ≤ i) (h2 : i < zlen k) (h3 : zlen k ≤ 2147483648) : wp (mS k (zi i) v) S Q = Q () (S.1, mU S.2 k i.toNat v) := by
  have e : mS k (zi i) v S = some ((), (S.1, mU S.2 k i.toNat v)) := by unfold mS; rw [if_neg (zi_in h1 h2 h3), zi_tn h1 (by omega)]
  apply propext; constructor
  · rintro ⟨w, S', h, q⟩; rw [e] at h; cases h; exact q
  · exact fun q => ⟨_, _, e, q⟩
theorem wp_mZ {Q : Unit → zS → Prop} {k : Nat} {i v : Int} (h1 : 0 ≤ i) (h2 : i < zlen k) (h3 : zlen k ≤ 2147483648) (h4 : v = 0 ∨ v = 1) : wp (mZ k (zi i) (zi v)) S Q = Q () (S.1, mU S.2 k i.toNat (zi v)) := by
  have e : mZ k (zi i) (zi v) S = some ((), (S.1, mU S.2 k i.toNat (zi v))) := by
    unfold mZ; rw [if_neg (zi_in h1 h2 h3), zi_tn h1 (by omega), if_pos (by rcases h4 with rfl | rfl; exact Or.inl rfl; exact Or.inr rfl)]
  apply propext; constructor
  · rintro ⟨w, S', h, q⟩; rw [e] at h; cases h; exact q
  · exact fun q => ⟨_, _, e, q⟩
theorem wp_mV {Q : Unit → zS → Prop} {k : Nat} {v : Int} (h4 : v = 0 ∨ v = 1) : wp (mV k (zi v)) S Q = Q () (upd S.1 k (zi v), S.2) := by
  have e : mV k (zi v) S = some ((), (upd S.1 k (zi v), S.2)) := by unfold mV; rw [if_pos (by rcases h4 with rfl | rfl; exact Or.inl rfl; exact Or.inr rfl)]
  apply propext; constructor
  · rintro ⟨w, S', h, q⟩; rw [e] at h; cases h; exact q
  · exact fun q => ⟨_, _, e, q⟩
end WM
