/-! ===== plain law 56: facts of the pure reader ===== -/
set_option maxRecDepth 100000
theorem dgV_lt {T : List Nat} : ∀ {m p s : Nat}, (∀ i, i < m → isA T (p + i) 48 57 = true) → dgV T m p s < 10 ^ m * (s + 1)
  | 0, p, s, _ => by
    show s < 1 * (s + 1)
    omega
  | m + 1, p, s, h => by
    unfold dgV
    have h0 := isA_iff.mp (h 0 (Nat.zero_lt_succ _))
    rw [Nat.add_zero] at h0
    have ih := dgV_lt (T := T) (m := m) (p := p + 1) (s := 10 * s + (T.getD p 0 - 48)) (fun i hi => by
      have := h (i + 1) (by omega)
      rw [show p + (i + 1) = p + 1 + i by omega] at this
      exact this)
    refine Nat.lt_of_lt_of_le ih ?_
    rw [Nat.pow_succ, Nat.mul_assoc]
    exact Nat.mul_le_mul_left _ (by omega)
theorem dgV_1000 {T : List Nat} {p : Nat} : dgV T (rnM T 48 57 3 p) p 0 < 1000 := by
  have h1 := dgV_lt (T := T) (m := rnM T 48 57 3 p) (p := p) (s := 0) (fun i hi => rnM_at hi)
  have h2 : rnM T 48 57 3 p ≤ 3 := by
    have : ∀ m q, rnM T 48 57 m q ≤ m := fun m => by
      induction m with
      | zero => intro q; exact Nat.le_refl _
      | succ m ih =>
        intro q
        unfold rnM
        split
        · have := ih (q + 1)
          omega
        · omega
    exact this 3 p
  have h3 : 10 ^ rnM T 48 57 3 p ≤ 10 ^ 3 := Nat.pow_le_pow_right (by decide) h2
  have : (10 : Nat) ^ 3 = 1000 := by decide
  omega
theorem rdA_ok {T : List Nat} : ∀ {A : List Nat} {k p : Nat} {w : Nat → Wd} {n : Nat → Nat} {p' : Nat} {w' : Nat → Wd} {n' : Nat → Nat}, rdA T A k p w n = .ok (p', w', n') → (∀ j, n j < 1000) → p + 2 * A.length ≤ p' ∧ ∀ j, n' j < 1000
  | [], k, p, w, n, p', w', n', h, hn => by
    unfold rdA at h
    cases h
    exact ⟨Nat.le_refl _, hn⟩
  | c :: A, k, p, w, n, p', w', n', h, hn => by
    unfold rdA at h
    split at h
    · cases h
    · split at h
      · split at h
        · rename_i e1 e2 e3
          have := rdA_ok h hn
          have e4 : 0 < rnM T 97 122 8 (p + rnM T 32 32 24 p) := by
            unfold goodW at e3
            simp at e3
            exact e3.1
          rw [List.length_cons]
          exact ⟨by omega, this.2⟩
        · cases h
      · split at h
        · rename_i e1 e2 e3
          have := rdA_ok h (fun j => by
            unfold upF
            split
            · exact dgV_1000
            · exact hn j)
          have e4 : 0 < rnM T 48 57 3 (p + rnM T 32 32 24 p) := by
            unfold goodN at e3
            simp at e3
            exact e3.1
          rw [List.length_cons]
          exact ⟨by omega, this.2⟩
        · cases h
theorem cwd_len : ∀ v, v < 8 → 5 ≤ (cwd v).length + 2 * (agT v).length + 1 := by decide
theorem rdC_ge {T : List Nat} {p v p' : Nat} {w : Nat → Wd} {n : Nat → Nat} (h : rdC T p = .ok (v, p', w, n)) : v < 8 ∧ p + 5 ≤ p' ∧ ∀ j, n j < 1000 := by
  unfold rdC at h
  split at h
  · rename_i hv
    unfold rdE at h
    split at h
    · cases h
    · rename_i q w1 n1 e
      split at h
      · cases h
        obtain ⟨h1, h2⟩ := rdA_ok e (fun _ => by decide)
        have h3 := cwd_len _ hv
        have h4 : (cwd (vrb (ltT T p (rnM T 97 122 24 p)))).length = rnM T 97 122 24 p := by
          rw [← vrb_cwd hv, ltT_len]
        exact ⟨hv, by omega, h2⟩
      · cases h
  · cases h
/-- all the commands, or where the fault is -/
def prs (T : List Nat) : Nat → Nat → Except Nat (List (Nat × (Nat → Wd) × (Nat → Nat)))
  | 0, _ => .ok []
  | m + 1, p => if p + rnM T 32 32 24 p = T.length then .ok [] else match rdC T (p + rnM T 32 32 24 p) with
    | .error e => .error e
    | .ok (v, p', w, n) => match prs T m p' with
      | .error e => .error e
      | .ok L => .ok ((v, w, n) :: L)
def cOn (B : Bk) : List (Nat × (Nat → Wd) × (Nat → Nat)) → Nat → Bk × Nat
  | [], d => (B, d)
  | (v, w, n) :: L, d => match cO B v w n with
    | none => (B, d)
    | some B' => cOn B' L (d + 1)
