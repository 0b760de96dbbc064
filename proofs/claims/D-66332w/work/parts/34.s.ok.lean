/-! what holds of the numbers -/
def OkN (A : Nat → Nat → Nat) : Prop := A 481 0 ≤ 12 ∧ A 482 0 ≤ 16 ∧ (∀ k, A 481 0 ≤ k → A 484 k = 0) ∧ (∀ v, v < 2 * A 482 0 → A 485 v < A 481 0 ∧ (A 486 v = 0 → A 487 v = 1)) ∧ (∀ v, 2 * A 482 0 ≤ v → A 488 v = 0) ∧ ∀ v, A 484 v ≤ 1 ∧ A 486 v ≤ 1 ∧ A 487 v ≤ 1 ∧ A 488 v ≤ 1
def OkC (A : Nat → Nat → Nat) (B : Nat → Nat → Int64) : Prop := A 483 0 ≤ 10 ∧ A 495 0 ≤ 400 ∧ (∀ c, c < A 483 0 → A 489 c < A 481 0) ∧ ∀ c, A 483 0 ≤ c → A 496 c = 0 ∧ A 504 c = 0 ∧ B 508 c = 0
def OkR (A : Nat → Nat → Nat) : Prop := ∀ c, c < A 483 0 → A 496 c ≤ 24 ∧ (∀ i, i < A 496 c → A 497 (24 * c + i) ≤ A 495 0 ∧ A 498 (24 * c + i) < A 499 (24 * c + i) ∧ A 499 (24 * c + i) ≤ 10000 ∧ A 500 (24 * c + i) ≤ 1) ∧ ∀ i, i + 1 < A 496 c → A 497 (24 * c + i) ≤ A 497 (24 * c + (i + 1)) ∧ (A 500 (24 * c + (i + 1)) = 0 → A 499 (24 * c + (i + 1)) = A 499 (24 * c + i))
def OkT (A : Nat → Nat → Nat) (B : Nat → Nat → Int64) : Prop := A 501 0 ≤ 8 ∧ (∀ k, k < A 501 0 → A 502 k ≤ 400 ∧ ∃ t, B 503 k = lN t ∧ t < 2 ^ 50 ∧ t / 2 ^ 40 ≤ 1000) ∧ ∀ j k, j < k → k < A 501 0 → A 502 j < A 502 k
def OkB (A : Nat → Nat → Nat) : Prop := ∀ c, c < A 483 0 → A 504 c ≤ 6 ∧ (0 < A 504 c → 0 < A 496 c) ∧ ∀ i, i < A 504 c → A 505 (6 * c + i) < A 506 (6 * c + i) ∧ A 506 (6 * c + i) ≤ 400
def OkI (A : Nat → Nat → Nat) : Prop := ∀ j, j < A 482 0 → A 485 (2 * j) ≠ A 485 (2 * j + 1)
def Ok (A : Nat → Nat → Nat) (B : Nat → Nat → Int64) : Prop := OkN A ∧ OkC A B ∧ OkR A ∧ OkT A B ∧ OkB A ∧ OkI A
