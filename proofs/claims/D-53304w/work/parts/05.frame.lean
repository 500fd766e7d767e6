/-! ===== FRAME: the abstract heap hG: class and kind of each address, length, int / long / reference cells, constants ===== -/
set_option maxRecDepth 100000
abbrev hG : Type := (Nat → Option (Nat × Bool)) × (Nat → Nat) × (Nat → Nat → Int32) × (Nat → Nat → Int64) × (Nat → Nat → Option Nat) × (Nat → Nat)
def hC (G : hG) : Nat → Option (Nat × Bool) := G.1
def hN (G : hG) : Nat → Nat := G.2.1
def hI (G : hG) : Nat → Nat → Int32 := G.2.2.1
def hJ (G : hG) : Nat → Nat → Int64 := G.2.2.2.1
def hR (G : hG) : Nat → Nat → Option Nat := G.2.2.2.2.1
def hK (G : hG) : Nat → Nat := G.2.2.2.2.2
def hsI (G : hG) (a k : Nat) (x : Int32) : hG := (hC G, hN G, fun b j => if b = a ∧ j = k then x else hI G b j, hJ G, hR G, hK G)
def hsJ (G : hG) (a k : Nat) (x : Int64) : hG := (hC G, hN G, hI G, fun b j => if b = a ∧ j = k then x else hJ G b j, hR G, hK G)
def hsR (G : hG) (a k : Nat) (x : Option Nat) : hG := (hC G, hN G, hI G, hJ G, fun b j => if b = a ∧ j = k then x else hR G b j, hK G)
def hnw (G : hG) (q ci n : Nat) : hG := (fun b => if b = q then some (ci, true) else hC G b, fun b => if b = q then n else hN G b, fun b j => if b = q then 0 else hI G b j, fun b j => if b = q then 0 else hJ G b j, fun b j => if b = q then none else hR G b j, hK G)
theorem hC_sI {G : hG} {a k : Nat} {x : Int32} : hC (hsI G a k x) = hC G := rfl
theorem hN_sI {G : hG} {a k : Nat} {x : Int32} : hN (hsI G a k x) = hN G := rfl
theorem hJ_sI {G : hG} {a k : Nat} {x : Int32} : hJ (hsI G a k x) = hJ G := rfl
theorem hR_sI {G : hG} {a k : Nat} {x : Int32} : hR (hsI G a k x) = hR G := rfl
theorem hK_sI {G : hG} {a k : Nat} {x : Int32} : hK (hsI G a k x) = hK G := rfl
theorem hI_sI {G : hG} {a k b j : Nat} {x : Int32} : hI (hsI G a k x) b j = if b = a ∧ j = k then x else hI G b j := rfl
theorem hC_sJ {G : hG} {a k : Nat} {x : Int64} : hC (hsJ G a k x) = hC G := rfl
theorem hN_sJ {G : hG} {a k : Nat} {x : Int64} : hN (hsJ G a k x) = hN G := rfl
theorem hI_sJ {G : hG} {a k : Nat} {x : Int64} : hI (hsJ G a k x) = hI G := rfl
theorem hR_sJ {G : hG} {a k : Nat} {x : Int64} : hR (hsJ G a k x) = hR G := rfl
theorem hK_sJ {G : hG} {a k : Nat} {x : Int64} : hK (hsJ G a k x) = hK G := rfl
theorem hJ_sJ {G : hG} {a k b j : Nat} {x : Int64} : hJ (hsJ G a k x) b j = if b = a ∧ j = k then x else hJ G b j := rfl
theorem hC_sR {G : hG} {a k : Nat} {x : Option Nat} : hC (hsR G a k x) = hC G := rfl
theorem hN_sR {G : hG} {a k : Nat} {x : Option Nat} : hN (hsR G a k x) = hN G := rfl
theorem hI_sR {G : hG} {a k : Nat} {x : Option Nat} : hI (hsR G a k x) = hI G := rfl
theorem hJ_sR {G : hG} {a k : Nat} {x : Option Nat} : hJ (hsR G a k x) = hJ G := rfl
theorem hK_sR {G : hG} {a k : Nat} {x : Option Nat} : hK (hsR G a k x) = hK G := rfl
theorem hR_sR {G : hG} {a k b j : Nat} {x : Option Nat} : hR (hsR G a k x) b j = if b = a ∧ j = k then x else hR G b j := rfl
theorem hC_nw {G : hG} {q ci n b : Nat} : hC (hnw G q ci n) b = if b = q then some (ci, true) else hC G b := rfl
theorem hN_nw {G : hG} {q ci n b : Nat} : hN (hnw G q ci n) b = if b = q then n else hN G b := rfl
theorem hI_nw {G : hG} {q ci n b j : Nat} : hI (hnw G q ci n) b j = if b = q then 0 else hI G b j := rfl
theorem hJ_nw {G : hG} {q ci n b j : Nat} : hJ (hnw G q ci n) b j = if b = q then 0 else hJ G b j := rfl
theorem hR_nw {G : hG} {q ci n b j : Nat} : hR (hnw G q ci n) b j = if b = q then none else hR G b j := rfl
theorem hK_nw {G : hG} {q ci n : Nat} : hK (hnw G q ci n) = hK G := rfl
/-- the class of an address: made, or a constant -/
def hcl (G : hG) (a ci : Nat) : Prop := hC G a = some (ci, true) ∨ hC G a = some (ci, false)
def hfr (G : hG) (q : Nat) : Prop := hC G q = none
/-- the same at an address -/
def hSm (G G' : hG) (b : Nat) : Prop := hN G' b = hN G b ∧ hI G' b = hI G b ∧ hJ G' b = hJ G b ∧ hR G' b = hR G b
theorem hSm_rf {G : hG} {b : Nat} : hSm G G b := ⟨rfl, rfl, rfl, rfl⟩
theorem hSm_sI {G : hG} {a k b : Nat} {x : Int32} (h : b ≠ a) : hSm G (hsI G a k x) b := ⟨rfl, funext fun j => by rw [hI_sI, if_neg (fun z => h z.1)], rfl, rfl⟩
theorem hSm_sJ {G : hG} {a k b : Nat} {x : Int64} (h : b ≠ a) : hSm G (hsJ G a k x) b := ⟨rfl, rfl, funext fun j => by rw [hJ_sJ, if_neg (fun z => h z.1)], rfl⟩
theorem hSm_sR {G : hG} {a k b : Nat} {x : Option Nat} (h : b ≠ a) : hSm G (hsR G a k x) b := ⟨rfl, rfl, rfl, funext fun j => by rw [hR_sR, if_neg (fun z => h z.1)]⟩
theorem hSm_nw {G : hG} {q ci n b : Nat} (h : b ≠ q) : hSm G (hnw G q ci n) b := ⟨by rw [hN_nw, if_neg h], funext fun j => by rw [hI_nw, if_neg h], funext fun j => by rw [hJ_nw, if_neg h], funext fun j => by rw [hR_nw, if_neg h]⟩
theorem hSm.tr {G G' G'' : hG} {b : Nat} (h : hSm G G' b) (h' : hSm G' G'' b) : hSm G G'' b := ⟨h'.1.trans h.1, h'.2.1.trans h.2.1, h'.2.2.1.trans h.2.2.1, h'.2.2.2.trans h.2.2.2⟩
/-- a field's value, by its kind: 0 an int's, 1 a long, else a reference -/
def hVal (G : hG) (a kd k : Nat) : Value := match kd with
  | 0 => .int (hI G a k)
  | 1 => .long (hJ G a k)
  | _ => va_rf (hR G a k)
def hFs (G : hG) (a : Nat) : List Nat → Nat → List Value
  | [], _ => []
  | kd :: l, k => hVal G a kd k :: hFs G a l (k + 1)
def hArr (G : hG) (a : Nat) (kd : Nat) : vp_A := match kd with
  | 0 => (hN G a, .inl (hI G a))
  | 1 => (hN G a, .inr (.inl (hJ G a)))
  | _ => (hN G a, .inr (.inr (.inr (.inr (hR G a)))))
def hEnt (E : Nat → ClassId) (G : hG) (a ci : Nat) : va_E := if ci < 100 then .inr (ci, hFs G a (hKd ci) 0) else .inl (E (ci - 100), hArr G a (hAk (ci - 100)))
theorem hFs_congr {G G' : hG} {a : Nat} : ∀ (l : List Nat) (k0 : Nat), (∀ k, k0 ≤ k → hI G' a k = hI G a k ∧ hJ G' a k = hJ G a k ∧ hR G' a k = hR G a k) → hFs G' a l k0 = hFs G a l k0
  | [], _, _ => rfl
  | kd :: l, k0, h => by
    have h0 := h k0 (Nat.le_refl _)
    have h1 := hFs_congr l (k0 + 1) (fun k hk => h k (by omega))
    show hVal G' a kd k0 :: _ = hVal G a kd k0 :: _
    rw [h1]
    congr 1
    unfold hVal
    split
    · rw [h0.1]
    · rw [h0.2.1]
    · rw [h0.2.2]
theorem hFs_sI {G : hG} {a : Nat} {x : Int32} : ∀ (l : List Nat) (k0 k : Nat), l[k]? = some 0 → hFs (hsI G a (k0 + k) x) a l k0 = (hFs G a l k0).set k (.int x)
  | [], _, _, h => by simp at h
  | kd :: l, k0, 0, h => by
    rw [List.getElem?_cons_zero] at h
    cases h
    show hVal _ a 0 k0 :: hFs _ a l (k0 + 1) = .int x :: hFs G a l (k0 + 1)
    rw [hFs_congr (G := G) (G' := hsI G a (k0 + 0) x) l (k0 + 1) (fun k hk => ⟨by rw [hI_sI, if_neg (by omega)], rfl, rfl⟩)]
    congr 1
    show Value.int (hI _ a k0) = _
    rw [hI_sI, if_pos (by omega)]
  | kd :: l, k0, k + 1, h => by
    rw [List.getElem?_cons_succ] at h
    show hVal _ a kd k0 :: hFs _ a l (k0 + 1) = hVal G a kd k0 :: (hFs G a l (k0 + 1)).set k (.int x)
    rw [show k0 + (k + 1) = (k0 + 1) + k by omega, hFs_sI l (k0 + 1) k h]
    congr 1
    unfold hVal
    split
    · rw [hI_sI, if_neg (by omega)]
    · rfl
    · rfl
theorem hFs_sJ {G : hG} {a : Nat} {x : Int64} : ∀ (l : List Nat) (k0 k : Nat), l[k]? = some 1 → hFs (hsJ G a (k0 + k) x) a l k0 = (hFs G a l k0).set k (.long x)
  | [], _, _, h => by simp at h
  | kd :: l, k0, 0, h => by
    rw [List.getElem?_cons_zero] at h
    cases h
    show hVal _ a 1 k0 :: hFs _ a l (k0 + 1) = .long x :: hFs G a l (k0 + 1)
    rw [hFs_congr (G := G) (G' := hsJ G a (k0 + 0) x) l (k0 + 1) (fun k hk => ⟨rfl, by rw [hJ_sJ, if_neg (by omega)], rfl⟩)]
    congr 1
    show Value.long (hJ _ a k0) = _
    rw [hJ_sJ, if_pos (by omega)]
  | kd :: l, k0, k + 1, h => by
    rw [List.getElem?_cons_succ] at h
    show hVal _ a kd k0 :: hFs _ a l (k0 + 1) = hVal G a kd k0 :: (hFs G a l (k0 + 1)).set k (.long x)
    rw [show k0 + (k + 1) = (k0 + 1) + k by omega, hFs_sJ l (k0 + 1) k h]
    congr 1
    unfold hVal
    split
    · rfl
    · rw [hJ_sJ, if_neg (by omega)]
    · rfl
theorem hFs_sR {G : hG} {a : Nat} {x : Option Nat} : ∀ (l : List Nat) (k0 k : Nat), l[k]? = some 2 → hFs (hsR G a (k0 + k) x) a l k0 = (hFs G a l k0).set k (va_rf x)
  | [], _, _, h => by simp at h
  | kd :: l, k0, 0, h => by
    rw [List.getElem?_cons_zero] at h
    cases h
    show hVal _ a 2 k0 :: hFs _ a l (k0 + 1) = va_rf x :: hFs G a l (k0 + 1)
    rw [hFs_congr (G := G) (G' := hsR G a (k0 + 0) x) l (k0 + 1) (fun k hk => ⟨rfl, rfl, by rw [hR_sR, if_neg (by omega)]⟩)]
    congr 1
    show va_rf (hR _ a k0) = _
    rw [hR_sR, if_pos (by omega)]
  | kd :: l, k0, k + 1, h => by
    rw [List.getElem?_cons_succ] at h
    show hVal _ a kd k0 :: hFs _ a l (k0 + 1) = hVal G a kd k0 :: (hFs G a l (k0 + 1)).set k (va_rf x)
    rw [show k0 + (k + 1) = (k0 + 1) + k by omega, hFs_sR l (k0 + 1) k h]
    congr 1
    unfold hVal
    split
    · rfl
    · rfl
    · rw [hR_sR, if_neg (by omega)]
theorem hFs_len {G : hG} {a : Nat} : ∀ (l : List Nat) (k : Nat), (hFs G a l k).length = l.length
  | [], _ => rfl
  | kd :: l, k => by
    show (hFs G a l (k + 1)).length + 1 = l.length + 1
    rw [hFs_len l (k + 1)]
theorem hVal_nw {G : hG} {q ci n k : Nat} : ∀ kd, hVal (hnw G q ci n) q kd k = hDf kd
  | 0 => by
    show Value.int (hI _ q k) = _
    rw [hI_nw, if_pos rfl]
    rfl
  | 1 => by
    show Value.long (hJ _ q k) = _
    rw [hJ_nw, if_pos rfl]
    rfl
  | kd + 2 => by
    show va_rf (hR _ q k) = _
    rw [hR_nw, if_pos rfl]
    rfl
theorem hFs_nw {G : hG} {q ci n : Nat} : ∀ (l : List Nat) (k : Nat), hFs (hnw G q ci n) q l k = l.map hDf
  | [], _ => rfl
  | kd :: l, k => by
    show hVal _ q kd k :: hFs _ q l (k + 1) = hDf kd :: l.map hDf
    rw [hFs_nw l (k + 1), hVal_nw]
theorem hEnt_sm {E : Nat → ClassId} {G G' : hG} {b ci : Nat} (h : hSm G G' b) : hEnt E G' b ci = hEnt E G b ci := by
  obtain ⟨h1, h2, h3, h4⟩ := h
  unfold hEnt
  split
  · rw [hFs_congr (G := G) (G' := G') _ _ (fun k _ => ⟨by rw [h2], by rw [h3], by rw [h4]⟩)]
  · unfold hArr
    rw [h1, h2, h3, h4]
/-- which cells may be written: those from B on -/
def hB (B : Nat) : Nat → Prop := fun q => B ≤ q
/-- the constants' part stays -/
def hAg (B : Nat) (Z G : hG) : Prop := (∀ a, a < B → hC G a = hC Z a ∧ hSm Z G a) ∧ hK G = hK Z
/-- the heap H is as G says -/
def hPw (D : va_G) (E : Nat → ClassId) (B : Nat) (Z G : hG) (H : Heap) : Prop := (∀ a ci, hC G a = some (ci, true) → va_at D hCl (a, hEnt E G a ci) H ∧ B ≤ a) ∧ hAg B Z G ∧ B ≤ H.size ∧ ∀ a ci, B ≤ a → hC G a ≠ some (ci, false)
/-- the made cells, as a list -/
def hMu (E : Nat → ClassId) (G : hG) (a : Nat) : Option (Nat × va_E) := match hC G a with
  | some (ci, true) => some (a, hEnt E G a ci)
  | _ => none
def hWs (E : Nat → ClassId) (G : hG) (n : Nat) : va_W := (List.range n).filterMap (hMu E G)
theorem hMu_some {E : Nat → ClassId} {G : hG} {a : Nat} {q : Nat × va_E} (h : hMu E G a = some q) : ∃ ci, hC G a = some (ci, true) ∧ q = (a, hEnt E G a ci) := by
  unfold hMu at h
  split at h
  · rename_i ci hc
    exact ⟨ci, hc, (Option.some.inj h).symm⟩
  · cases h
theorem hMu_of {E : Nat → ClassId} {G : hG} {a ci : Nat} (h : hC G a = some (ci, true)) : hMu E G a = some (a, hEnt E G a ci) := by
  unfold hMu
  rw [h]
theorem hWs_mem {E : Nat → ClassId} {G : hG} {n k : Nat} {q : Nat × va_E} (h : (hWs E G n)[k]? = some q) : q.1 < n ∧ ∃ ci, hC G q.1 = some (ci, true) ∧ q = (q.1, hEnt E G q.1 ci) := by
  obtain ⟨a, ha, hq⟩ := List.mem_filterMap.mp (List.mem_of_getElem? h)
  obtain ⟨ci, h1, h2⟩ := hMu_some hq
  subst h2
  exact ⟨List.mem_range.mp ha, ci, h1, rfl⟩
theorem hWs_at {E : Nat → ClassId} {G : hG} {n a ci : Nat} (h : hC G a = some (ci, true)) (hn : a < n) : ∃ k : Nat, (hWs E G n)[k]? = some (a, hEnt E G a ci) :=
  List.getElem?_of_mem (List.mem_filterMap.mpr ⟨a, List.mem_range.mpr hn, hMu_of h⟩)
theorem hWs_pw {E : Nat → ClassId} {G : hG} {n : Nat} : (hWs E G n).Pairwise (fun x y => x.1 < y.1) := by
  refine List.Pairwise.filterMap (R := fun (a b : Nat) => a < b) _ ?_ List.pairwise_lt_range
  intro a a' h b hb b' hb'
  obtain ⟨_, -, h2⟩ := hMu_some hb
  obtain ⟨_, -, h4⟩ := hMu_some hb'
  rw [h2, h4]
  exact h
theorem hWs_D {E : Nat → ClassId} {G : hG} {n : Nat} {A : Nat → Prop} (hA : ∀ a ci, hC G a = some (ci, true) → A a) : va_D A (hWs E G n) := by
  refine ⟨fun i j p q hi hj hpq => ?_, fun k q hk => ?_⟩
  · obtain ⟨li, ei⟩ := List.getElem?_eq_some_iff.mp hi
    obtain ⟨lj, ej⟩ := List.getElem?_eq_some_iff.mp hj
    rcases Nat.lt_trichotomy i j with h | h | h
    · have := List.pairwise_iff_getElem.mp (hWs_pw (E := E) (G := G) (n := n)) i j li lj h
      rw [ei, ej] at this
      omega
    · exact h
    · have := List.pairwise_iff_getElem.mp (hWs_pw (E := E) (G := G) (n := n)) j i lj li h
      rw [ei, ej] at this
      omega
  · obtain ⟨-, ci, h1, -⟩ := hWs_mem hk
    exact hA _ _ h1
section HPW
variable {D : va_G} {E : Nat → ClassId} {B : Nat} {Z G G' : hG} {H H1 : Heap}
theorem hPw.lt (h : hPw D E B Z G H) {a ci : Nat} (hc : hC G a = some (ci, true)) : a < H.size := ((h.1 a ci hc).1).lt
theorem hPw.fresh (h : hPw D E B Z G H) {q : Nat} (hq : H.size ≤ q) : hfr G q := by
  cases hc : hC G q with
  | none => exact hc
  | some c =>
    obtain ⟨ci, b⟩ := c
    cases b with
    | true => exact absurd (h.lt hc) (by omega)
    | false => exact absurd hc (h.2.2.2 q ci (Nat.le_trans h.2.2.1 hq))
theorem hPw.P (h : hPw D E B Z G H) : va_P D hCl (hWs E G H.size) H := by
  intro k q hk
  obtain ⟨-, ci, h1, h2⟩ := hWs_mem hk
  rw [h2]
  exact (h.1 _ _ h1).1
theorem hPw.Dw (h : hPw D E B Z G H) : va_D (hB B) (hWs E G H.size) := hWs_D fun a ci hc => (h.1 a ci hc).2
/-- behind a write at a -/
theorem hPw.set (h : hPw D E B Z G H) {a ci q0 : Nat} {e0 e' : va_E} (ha : hC G a = some (ci, true)) (hq : (hWs E G H.size)[q0]? = some (a, e0)) (hP1 : va_P D hCl ((hWs E G H.size).set q0 (a, e')) H1) (hz : B ≤ H1.size) (hC' : hC G' = hC G) (hK' : hK G' = hK G) (he : hEnt E G' a ci = e') (hs : ∀ b, b ≠ a → hSm G G' b) : hPw D E B Z G' H1 := by
  refine ⟨fun b cb hb => ?_, ⟨fun b hb => ?_, by rw [hK']; exact h.2.1.2⟩, hz, fun b cb hb => by rw [hC']; exact h.2.2.2 b cb hb⟩
  · rw [hC'] at hb
    refine ⟨?_, (h.1 b cb hb).2⟩
    by_cases hba : b = a
    · subst hba
      rw [ha] at hb
      cases hb
      rw [he]
      exact hP1 q0 (b, e') (List.getElem?_set_self (List.getElem?_eq_some_iff.mp hq).1)
    · obtain ⟨k, hk⟩ := hWs_at (E := E) hb (h.lt hb)
      rw [hEnt_sm (hs b hba)]
      refine hP1 k _ ?_
      rw [List.getElem?_set_ne]
      · exact hk
      · intro z
        subst z
        rw [hq] at hk
        exact hba (congrArg Prod.fst (Option.some.inj hk)).symm
  · have hba : b ≠ a := by
      intro z
      subst z
      have := (h.1 b ci ha).2
      omega
    obtain ⟨h1, h2⟩ := h.2.1.1 b hb
    exact ⟨by rw [hC']; exact h1, h2.tr (hs b hba)⟩
/-- behind a new cell -/
theorem hPw.push (h : hPw D E B Z G H) {q ci n : Nat} {e' : va_E} (hP1 : va_P D hCl (hWs E G H.size ++ [(q, e')]) H1) (hD1 : va_D (hB B) (hWs E G H.size ++ [(q, e')])) (hz : B ≤ H1.size) (he : hEnt E (hnw G q ci n) q ci = e') : hfr G q ∧ hPw D E B Z (hnw G q ci n) H1 := by
  have hlast : (hWs E G H.size ++ [(q, e')])[(hWs E G H.size).length]? = some (q, e') := by simp
  have hqB : B ≤ q := hD1.2 _ _ hlast
  have hne : ∀ b cb, hC G b = some (cb, true) → b ≠ q := by
    intro b cb hb z
    subst z
    obtain ⟨k, hk⟩ := hWs_at (E := E) hb (h.lt hb)
    have hkl := (List.getElem?_eq_some_iff.mp hk).1
    have := hD1.1 k _ (b, hEnt E G b cb) (b, e') (by rw [List.getElem?_append_left hkl]; exact hk) hlast rfl
    omega
  have hfrq : hfr G q := by
    cases hc : hC G q with
    | none => exact hc
    | some c =>
      obtain ⟨cq, b⟩ := c
      cases b with
      | true => exact absurd rfl (hne q cq hc)
      | false => exact absurd hc (h.2.2.2 q cq hqB)
  refine ⟨hfrq, fun b cb hb => ?_, ⟨fun b hb => ?_, h.2.1.2⟩, hz, fun b cb hb => ?_⟩
  · rw [hC_nw] at hb
    by_cases hbq : b = q
    · subst hbq
      rw [if_pos rfl] at hb
      cases hb
      rw [he]
      exact ⟨hP1 _ _ hlast, hqB⟩
    · rw [if_neg hbq] at hb
      obtain ⟨k, hk⟩ := hWs_at (E := E) hb (h.lt hb)
      have hkl := (List.getElem?_eq_some_iff.mp hk).1
      rw [hEnt_sm (hSm_nw hbq)]
      exact ⟨hP1 k _ (by rw [List.getElem?_append_left hkl]; exact hk), (h.1 b cb hb).2⟩
  · have hbq : b ≠ q := by
      intro z
      subst z
      omega
    obtain ⟨h1, h2⟩ := h.2.1.1 b hb
    exact ⟨by rw [hC_nw, if_neg hbq]; exact h1, h2.tr (hSm_nw hbq)⟩
  · rw [hC_nw]
    split
    · simp
    · exact h.2.2.2 b cb hb
end HPW
def hlet {α : Type} (x : α) (f : α → Prop) : Prop := f x
theorem hlet_o {α : Type} {x : α} {f : α → Prop} (h : hlet x f) : ∃ y, y = x ∧ f y := ⟨x, rfl, h⟩
theorem hlet_at {α : Type} {x y : α} {f : α → Prop} (h : hlet x f) (e : y = x) : f y := by subst e; exact h
def hFt (ty : FieldType) (x : Int32) : Prop := narrow ty (.int x) = .int x ∧ fits ty (.int x) = true
theorem hna0 {G : hG} {q ci N : Nat} : hArr (hnw G q ci N) q 0 = (N, .inl (fun _ => 0)) := by
  show (hN (hnw G q ci N) q, Sum.inl (hI (hnw G q ci N) q)) = _
  rw [hN_nw, if_pos rfl]
  congr 2
  funext j
  rw [hI_nw, if_pos rfl]
theorem hna1 {G : hG} {q ci N : Nat} : hArr (hnw G q ci N) q 1 = (N, .inr (.inl (fun _ => 0))) := by
  show (hN (hnw G q ci N) q, Sum.inr (Sum.inl (hJ (hnw G q ci N) q))) = _
  rw [hN_nw, if_pos rfl]
  congr 3
  funext j
  rw [hJ_nw, if_pos rfl]
theorem hna2 {G : hG} {q ci N : Nat} : hArr (hnw G q ci N) q 0 = (N, .inl (fun _ => 0)) := hna0
/-! ===== the world that stands still: classes, constants, the tables' words that no method's list carries ===== -/
def hAv (G : hG) (a kd : Nat) : Nat → Value := fun j => hVal G a kd j
def hRo (D : va_G) (E : Nat → ClassId) (B : Nat) (Z : hG) (s : State) (a ci : Nat) : Prop := if ci < 100 then va_at D hCl (a, hEnt E Z a ci) s.heap else ∃ ty, hTl[ci - 100]? = some ty ∧ va_T ty a (hN Z a) (hAv Z a (hAk (ci - 100))) (hB B) s s.heap
/-! an interface's method that another interface declares -/
def hIm (r o n d : String) (U : State) : Prop := (Cond.interfaceMethod r o n d).before #[] U = true
theorem hIm.moved {r o n d : String} {u U : State} (hvm : u.vm.Alike U.vm) (h : hIm r o n d u) : hIm r o n d U := by
  have hf := State.methodFound?_setVm hvm r n d
  have h1 : (Cond.interfaceMethod r o n d).before #[] (u.setVm U.vm) = (Cond.interfaceMethod r o n d).before #[] u := by
    simp only [Cond.before, Cond.holds, Cond.value, State.vm_setVm, hvm.findClass, hf, State.methodNamed?_setVm hvm, arm_isInterface_setVm hvm]
  have e := Cond.onTables_vm (A := #[]) (A' := #[]) (U := u) (U' := U) U.vm (Cond.interfaceMethod r o n d) rfl
  have hU : U.setVm U.vm = U := rfl
  rw [hU] at e
  unfold hIm
  rw [← e, h1]
  exact h
def hFu (C J : String) (x y : MethodName) (U : State) : Prop := hIm x.cls J x.name x.desc U ∧ (Cond.declares ⟨J, x.name, x.desc⟩).before #[] U = true ∧ (Cond.publicMethod ⟨J, x.name, x.desc⟩).before #[] U = true ∧ (Cond.publicMethod y).before #[] U = true ∧ (Cond.unhidden C x.name x.desc).before #[] U = true ∧ (Cond.castable C x.cls).before #[] U = true
theorem hFu.moved {C J : String} {x y : MethodName} {u U : State} (hvm : u.vm.Alike U.vm) (h : hFu C J x y u) : hFu C J x y U := by
  obtain ⟨h1, h2, h3, h4, h5, h6⟩ := h
  have tr : ∀ {c : Cond}, c.onTables = true → c.before #[] (u.setVm U.vm) = true → c.before #[] U = true := by
    intro c hc h
    have e := Cond.onTables_vm (A := #[]) (A' := #[]) (U := u) (U' := U) U.vm c hc
    have hU : U.setVm U.vm = U := rfl
    rw [hU] at e
    rw [← e]
    exact h
  exact ⟨h1.moved hvm, tr rfl (by rw [Cond.declares_setVm hvm]; exact h2), tr rfl (by rw [Cond.publicMethod_setVm hvm]; exact h3), tr rfl (by rw [Cond.publicMethod_setVm hvm]; exact h4), tr rfl (by rw [Cond.unhidden_setVm hvm]; exact h5), tr rfl (by rw [Cond.castable_setVm hvm]; exact h6)⟩
def hNw (s : State) : Prop := (∀ a i b n d h, Cond.fieldLinkNest a i b n d h ∈ lw_tbl → va_Nw (.fieldLinkNest a i b n d h) s) ∧ (∀ a i x h, Cond.methodLinkNest a i x h ∈ lw_tbl → va_Nw (.methodLinkNest a i x h) s) ∧ (∀ a b, Cond.castable a b ∈ lw_tbl → va_Nw (.castable a b) s) ∧ (∀ x, Cond.declares x ∈ lw_tbl → va_Nw (.declares x) s) ∧ (∀ C, Cond.arrayOver (.object C) ∈ lw_tbl → va_AO C s) ∧ (∀ t ∈ hFws, va_Fw t.1 t.2.1 t.2.2 s) ∧ (∀ t ∈ hNcs, va_Nc t.1 t.2 s) ∧ (∀ t ∈ hFus, hFu t.1 t.2.1 t.2.2.1 t.2.2.2 s) ∧ (∀ t ∈ hXls, va_Nw (.methodLink t.1 t.2.1 t.2.2) s) ∧ ∀ x, Cond.privateMethod x ∈ lw_tbl → va_Nw (.privateMethod x) s
def hSt (B : Nat) (Z : hG) (s : State) : Prop := (∀ i C n d, hSrs[i]? = some (C, n, d) → va_Z C n d (.ref (hK Z i)) (hB B) s s.heap) ∧ (∀ t ∈ hSis, va_Z t.1 t.2.1 t.2.2.1 (.int t.2.2.2) (hB B) s s.heap) ∧ (∀ t ∈ hSqs, vx_Zq t.1 t.2.1 t.2.2 (hB B) s s.heap) ∧ (∀ t ∈ hSks, vk_R t.1 t.2.1 t.2.2.1 (hK Z t.2.2.2) s) ∧ va_Mi "[Ljava/lang/Object;" (hK Z 50) s ∧ ∃ cell : Cell, s.heap[hK Z 1]? = some cell ∧ cell.vm.isStatics = false ∧ s.vm.findClass "[Ljava/lang/Object;" = some cell.cls ∧ ¬ hB B (hK Z 1)
def hEs (D : va_G) (E : Nat → ClassId) (B : Nat) (Z : hG) (s : State) : Prop := va_K D hCl (hTys E) s ∧ (∀ a c, hC Z a = some c → a < B ∧ c.2 = false ∧ hRo D E B Z s a c.1) ∧ hNw s ∧ hSt B Z s ∧ B ≤ s.heap.size
theorem hNw.go {s U : State} (h : hNw s) (hW : s.WarmedH U.vm) : hNw U := by
  obtain ⟨h1, h2, h3, h4, h5, h6, h7, h8, h9, h10⟩ := h
  refine ⟨fun a i b n d x hw => va_Nw.warmF hW (h1 a i b n d x hw), fun a i x y hw => va_Nw.warmM hW (h2 a i x y hw), fun a b hw => va_Nw.warmC hW (h3 a b hw), fun x hw => va_Nw.warmD hW (h4 x hw), fun C hw => ?_, fun t ht => ?_, fun t ht => ?_, fun t ht => (h8 t ht).moved hW.alike, fun t ht => word_at hW (Or.inl rfl) (h9 t ht), fun x hw => Cond.privateMethod_warm hW (h10 x hw)⟩
  · exact va_AO.moved hW.alike (h5 C hw)
  · exact va_Fw.moved (hFws_ok t ht) hW.alike (h6 t ht)
  · exact va_Nc.moved hW.alike (h7 t ht)
theorem hSt.go {B : Nat} {Z : hG} {s U : State} {locs : List Loc} (h : hSt B Z s) (hW : s.WarmedH U.vm) (hS : va_S (hB B) s.heap U.heap locs) : hSt B Z U := by
  obtain ⟨h1, h2, h3, h4, h5, cell, g1, g2, g3, g4⟩ := h
  exact ⟨fun i C n d hi => va_Z.moved hW.alike ((h1 i C n d hi).kept hS.2.1), fun t ht => va_Z.moved hW.alike ((h2 t ht).kept hS.2.1), fun t ht => vx_Zq.moved hW.alike ((h3 t ht).kept hS.2.1), fun t ht => vk_R.warm hW (h4 t ht), va_Mi.moved hW.alike h5, cell, by rw [hS.2.1 _ (Array.getElem?_eq_some_iff.mp g1).1 g4]; exact g1, g2, by rw [hW.alike.findClass]; exact g3, g4⟩
theorem hEs.go {D : va_G} {E : Nat → ClassId} {B : Nat} {Z : hG} {s U : State} {locs : List Loc} (h : hEs D E B Z s) (hW : s.WarmedH U.vm) (hS : va_S (hB B) s.heap U.heap locs) : hEs D E B Z U := by
  obtain ⟨h1, h2, h3, h4, h5⟩ := h
  refine ⟨va_K.moved hW.alike h1, fun a c hc => ?_, h3.go hW, h4.go hW hS, Nat.le_trans h5 hS.1⟩
  obtain ⟨g1, g2, g3⟩ := h2 a c hc
  refine ⟨g1, g2, ?_⟩
  unfold hRo at g3 ⊢
  split at g3
  · rename_i hlt
    rw [if_pos hlt]
    exact g3.kept (hS.2.1 a g3.lt (show ¬ B ≤ a by omega))
  · rename_i hlt
    rw [if_neg hlt]
    obtain ⟨ty, t1, t2⟩ := g3
    exact ⟨ty, t1, va_T.moved hW.alike (t2.kept hS.2.1)⟩
/-- what a method's start says -/
def hPre (D : va_G) (E : Nat → ClassId) (B : Nat) (Z G : hG) (av : List Value) : Array Value → State → Prop := va_Pc av (fun U => hEs D E B Z U ∧ hPw D E B Z G U.heap)
abbrev hQi (D : va_G) (E : Nat → ClassId) (B : Nat) (Z : hG) (Q : hG → Int32 → Prop) := va_Qi (S := hG) (fun r G' => Q G' r) (fun G' t => hPw D E B Z G' t.heap) (hB B)
abbrev hQl (D : va_G) (E : Nat → ClassId) (B : Nat) (Z : hG) (Q : hG → Int64 → Prop) := va_Ql (S := hG) (fun r G' => Q G' r) (fun G' t => hPw D E B Z G' t.heap) (hB B)
abbrev hQv (D : va_G) (E : Nat → ClassId) (B : Nat) (Z : hG) (Q : hG → Prop) := va_Qv (S := hG) (fun G' => Q G') (fun G' t => hPw D E B Z G' t.heap) (hB B)
abbrev hQq (D : va_G) (E : Nat → ClassId) (B : Nat) (Z : hG) (Q : hG → Option Nat → Prop) := va_Qq (S := hG) (fun r G' => Q G' r) (fun G' t => hPw D E B Z G' t.heap) (hB B)
theorem hPre.blind {D : va_G} {E : Nat → ClassId} {B : Nat} {Z G : hG} {av : List Value} : FrameBlind (hPre D E B Z G av) := by
  intro a U g mk q
  obtain ⟨q0, q1, q2⟩ := q
  exact ⟨q0, q1.go (locs := []) (State.WarmedH.refl U) va_S.rf, q2⟩
theorem hPre.at {D : va_G} {E : Nat → ClassId} {B : Nat} {Z G : hG} {av : List Value} {s : State} {H : Heap} {locs : List Loc} (hE : hEs D E B Z s) (hh : hPw D E B Z G H) (hS : va_S (hB B) s.heap H locs) (U : State) (hU : U.heap = H) (hW : s.WarmedH U.vm) : hPre D E B Z G av av.toArray U := by
  subst hU
  exact ⟨rfl, hE.go hW hS, hh⟩
theorem hcat (x : Option Nat) : (va_rf x).category = 1 := by cases x <;> rfl
theorem h_one {D : va_G} {cl : List vw_C} {q : Nat × va_E} {H : Heap} (h : va_at D cl q H) : va_P D cl [q] H := by
  intro k x hx
  have hz : k < 1 := (List.getElem?_eq_some_iff.mp hx).1
  have hk : k = 0 := by omega
  subst hk
  cases hx
  exact h
section HROW
variable {p : Program} {l : Launch} {e : Env} {R : Room} {s : State} {m : MethodId} {args : Array Value} {below : List Frame} {meth : Method} {c : Code} {H : Heap} {locs : List Loc} {cells slots : Nat} {Q : State → Prop}
variable {cc : ByteArray} {pc : Nat} {ls : Array Slot} {rest : List Value} {D : va_G} {E : Nat → ClassId} {B : Nat} {Z G : hG} {a : Nat}
/-- an object's or a constant's cell -/
theorem hPw.atO {ci : Nat} (hE : hEs D E B Z s) (hh : hPw D E B Z G H) (hS : va_S (hB B) s.heap H locs) (hc : hcl G a ci) (hci : ci < 100) : va_at D hCl (a, .inr (ci, hFs G a (hKd ci) 0)) H := by
  have he : hEnt E G a ci = .inr (ci, hFs G a (hKd ci) 0) := by unfold hEnt; rw [if_pos hci]
  rw [← he]
  rcases hc with hc | hc
  · exact (hh.1 a ci hc).1
  · have hlt : a < B := by
      apply Nat.not_le.mp
      intro z
      exact hh.2.2.2 a ci z hc
    obtain ⟨g1, g2⟩ := hh.2.1.1 a hlt
    obtain ⟨-, -, g3⟩ := hE.2.1 a (ci, false) (g1.symm.trans hc)
    unfold hRo at g3
    rw [if_pos hci] at g3
    rw [hEnt_sm g2]
    exact g3.kept (hS.2.1 a g3.lt (show ¬ B ≤ a by omega))
theorem hPw.atC {t : Nat} (hE : hEs D E B Z s) (hh : hPw D E B Z G H) (hc : hC G a = some (100 + t, false)) : ∃ ty, hTl[t]? = some ty ∧ va_T ty a (hN G a) (hAv G a (hAk t)) (hB B) s s.heap := by
  have hlt : a < B := by
    apply Nat.not_le.mp
    intro z
    exact hh.2.2.2 a _ z hc
  obtain ⟨g1, g2⟩ := hh.2.1.1 a hlt
  obtain ⟨-, -, g3⟩ := hE.2.1 a (100 + t, false) (g1.symm.trans hc)
  unfold hRo at g3
  rw [if_neg (by simp)] at g3
  simp only [Nat.add_sub_cancel_left] at g3
  obtain ⟨ty, t1, t2⟩ := g3
  refine ⟨ty, t1, ?_⟩
  have e1 : hAv G a (hAk t) = hAv Z a (hAk t) := by
    obtain ⟨-, e2, e3, e4⟩ := g2
    funext j
    unfold hAv hVal
    rw [e2, e3, e4]
  rw [g2.1, e1]
  exact t2
theorem hPw.atA {t : Nat} (hh : hPw D E B Z G H) (hc : hC G a = some (100 + t, true)) : va_at D hCl (a, .inl (E t, hArr G a (hAk t))) H := by
  have he : hEnt E G a (100 + t) = .inl (E t, hArr G a (hAk t)) := by
    unfold hEnt
    rw [if_neg (by omega), Nat.add_sub_cancel_left]
  rw [← he]
  exact (hh.1 a _ hc).1
theorem hr_recv {ci : Nat} {q : vw_C} (hE : hEs D E B Z s) (hh : hPw D E B Z G H) (hS : va_S (hB B) s.heap H locs) (hc : hcl G a ci) (hci : ci < 100) (hq : hCl[ci]? = some q) : ∃ cell : Cell, H[a]? = some cell ∧ cell.vm.isStatics = false ∧ s.vm.findClass q.1 = some cell.cls :=
  va_recv (q0 := 0) hE.1 (h_one (hh.atO hE hS hc hci)) hq rfl
theorem hr_get (hx : p.tables.exec = Jvm.exec) (hb : c.code = cc) {own ref C : String} {T : u_T} {N index ci : Nat} (hts : ∀ w ∈ lw_all, w.before args s = true) (hin : ∀ w ∈ u_ws C T N, w ∈ lw_all) (hown : s.vm.findClass own = some m.cls) (hE : hEs D E B Z s) (hh : hPw D E B Z G H) (hS : va_S (hB B) s.heap H locs) (hc : hcl G a ci) (hci : ci < 100) (hq : hCl[ci]? = some (C, T, N)) (k : Nat) (hk : k < N) (hlink : (Cond.fieldLink own index ref (T k).2.1 (T k).2.2.1).before args s = true) (hsame : ∀ x, s.fieldFound? (T k).1 (T k).2.1 (T k).2.2.1 = some x → s.fieldFound? ref (T k).2.1 (T k).2.2.1 = some x) {v : Value} (hv : (hFs G a (hKd ci) 0)[k]? = some v) (hdg : decode cc pc = .ok (.getfield index, 3))
    (kk : W p l e R s m args below meth c H locs cells slots Q (F0 m (pc + 3) ls (v :: rest))) : W p l e R s m args below meth c H locs cells slots Q (F0 m pc ls (.ref a :: rest)) :=
  va_get hx hb hts hin hown hE.1 (h_one (hh.atO hE hS hc hci)) 0 rfl hq k hk hlink hsame hv hdg kk
theorem hr_getN (hx : p.tables.exec = Jvm.exec) (hb : c.code = cc) {own ref C host : String} {T : u_T} {N index ci : Nat} (hts : ∀ w ∈ lw_all, w.before args s = true) (hin : ∀ w ∈ u_ws C T N, w ∈ lw_all) (hown : s.vm.findClass own = some m.cls) (hE : hEs D E B Z s) (hh : hPw D E B Z G H) (hS : va_S (hB B) s.heap H locs) (hc : hcl G a ci) (hci : ci < 100) (hq : hCl[ci]? = some (C, T, N)) (k : Nat) (hk : k < N) (hlink : Cond.fieldLinkNest own index ref (T k).2.1 (T k).2.2.1 host ∈ lw_tbl) (hsame : ∀ x, s.fieldFound? (T k).1 (T k).2.1 (T k).2.2.1 = some x → s.fieldFound? ref (T k).2.1 (T k).2.2.1 = some x) {v : Value} (hv : (hFs G a (hKd ci) 0)[k]? = some v) (hdg : decode cc pc = .ok (.getfield index, 3))
    (kk : W p l e R s m args below meth c H locs cells slots Q (F0 m (pc + 3) ls (v :: rest))) : W p l e R s m args below meth c H locs cells slots Q (F0 m pc ls (.ref a :: rest)) :=
  va_getN hx hb hts hin hown hE.1 (h_one (hh.atO hE hS hc hci)) 0 rfl hq k hk (va_Nw.use rfl (hE.2.2.1.1 _ _ _ _ _ _ hlink)) hsame hv hdg kk
theorem h_putend {ci k kd : Nat} {G' : hG} {v : Value} (hE : hEs D E B Z s) (hh : hPw D E B Z G H) (hc : hC G a = some (ci, true)) (hci : ci < 100) (hfs : hFs G' a (hKd ci) 0 = (hFs G a (hKd ci) 0).set k v) (hC' : hC G' = hC G) (hK' : hK G' = hK G) (hs : ∀ b, b ≠ a → hSm G G' b) {q0 : Nat} (hq0 : (hWs E G H.size)[q0]? = some (a, hEnt E G a ci)) {H1 : Heap} {locs1 : List Loc} (hP1 : va_P D hCl ((hWs E G H.size).set q0 (a, .inr (ci, (hFs G a (hKd ci) 0).set k v))) H1) (hS1 : va_S (hB B) s.heap H1 locs1) : hPw D E B Z G' H1 :=
  hh.set hc hq0 hP1 (Nat.le_trans hE.2.2.2.2 hS1.1) hC' hK' (by unfold hEnt; rw [if_pos hci, hfs]) hs
end HROW
section HROW3
variable {p : Program} {l : Launch} {e : Env} {R : Room} {s : State} {m : MethodId} {args : Array Value} {below : List Frame} {meth : Method} {c : Code} {H : Heap} {locs : List Loc} {cells slots : Nat} {Q : State → Prop}
variable {cc : ByteArray} {pc : Nat} {ls : Array Slot} {rest : List Value} {D : va_G} {E : Nat → ClassId} {B : Nat} {Z G : hG} {a : Nat}
theorem hr_putI (hx : p.tables.exec = Jvm.exec) (hb : c.code = cc) {own ref C : String} {T : u_T} {N index ci : Nat} (hts : ∀ w ∈ lw_all, w.before args s = true) (hin : ∀ w ∈ u_ws C T N, w ∈ lw_all) (ty0 : Nat → FieldType) (hty : ∀ k, k < N → parseFieldDescriptor (T k).2.2.1 = some (ty0 k)) (hnm : ∀ a, a < N → ∀ b, b < N → a ≠ b → (T a).2.1 ≠ (T b).2.1) (hown : s.vm.findClass own = some m.cls) (hE : hEs D E B Z s) (hh : hPw D E B Z G H) (hS : va_S (hB B) s.heap H locs) (hc : hC G a = some (ci, true)) (hci : ci < 100) (hq : hCl[ci]? = some (C, T, N)) (k : Nat) (hk : k < N) (hkd : (hKd ci)[k]? = some 0) (hlink : (Cond.fieldLink own index ref (T k).2.1 (T k).2.2.1).before args s = true) (hsame : ∀ x, s.fieldFound? (T k).1 (T k).2.1 (T k).2.2.1 = some x → s.fieldFound? ref (T k).2.1 (T k).2.2.1 = some x) (hfin : (T k).2.2.2 = false) {ty : FieldType} {x : Int32} (hd : parseFieldDescriptor (T k).2.2.1 = some ty) (hn : narrow ty (.int x) = .int x ∧ fits ty (.int x) = true) (hdg : decode cc pc = .ok (.putfield index, 3))
    (kk : ∀ (H1 : Heap) (locs1 : List Loc), hPw D E B Z (hsI G a k x) H1 → va_S (hB B) s.heap H1 locs1 → W p l e R s m args below meth c H1 locs1 cells slots Q (F0 m (pc + 3) ls rest)) : W p l e R s m args below meth c H locs cells slots Q (F0 m pc ls (.int x :: .ref a :: rest)) := by
  obtain ⟨q0, hq0⟩ := hWs_at (E := E) hc (hh.lt hc)
  have he : hEnt E G a ci = .inr (ci, hFs G a (hKd ci) 0) := by unfold hEnt; rw [if_pos hci]
  have hfs := hFs_sI (G := G) (a := a) (x := x) (hKd ci) 0 k hkd
  rw [Nat.zero_add] at hfs
  refine va_put hx hb hts hin ty0 hty hnm hown hE.1 hh.P hh.Dw hS q0 (by rw [hq0, he]) hq k hk hlink hsame hfin hd hn.1 hn.2 (by rw [hFs_len]; exact (List.getElem?_eq_some_iff.mp hkd).1) hdg fun H1 locs1 hP1 hD1 hS1 => kk H1 locs1 ?_ hS1
  exact h_putend hE hh hc hci (kd := 0) hfs rfl rfl (fun b hb => hSm_sI hb) hq0 hP1 hS1
theorem hr_putJ (hx : p.tables.exec = Jvm.exec) (hb : c.code = cc) {own ref C : String} {T : u_T} {N index ci : Nat} (hts : ∀ w ∈ lw_all, w.before args s = true) (hin : ∀ w ∈ u_ws C T N, w ∈ lw_all) (ty0 : Nat → FieldType) (hty : ∀ k, k < N → parseFieldDescriptor (T k).2.2.1 = some (ty0 k)) (hnm : ∀ a, a < N → ∀ b, b < N → a ≠ b → (T a).2.1 ≠ (T b).2.1) (hown : s.vm.findClass own = some m.cls) (hE : hEs D E B Z s) (hh : hPw D E B Z G H) (hS : va_S (hB B) s.heap H locs) (hc : hC G a = some (ci, true)) (hci : ci < 100) (hq : hCl[ci]? = some (C, T, N)) (k : Nat) (hk : k < N) (hkd : (hKd ci)[k]? = some 1) (hlink : (Cond.fieldLink own index ref (T k).2.1 (T k).2.2.1).before args s = true) (hsame : ∀ x, s.fieldFound? (T k).1 (T k).2.1 (T k).2.2.1 = some x → s.fieldFound? ref (T k).2.1 (T k).2.2.1 = some x) (hfin : (T k).2.2.2 = false) {x : Int64} (hd : parseFieldDescriptor (T k).2.2.1 = some .long) (hdg : decode cc pc = .ok (.putfield index, 3))
    (kk : ∀ (H1 : Heap) (locs1 : List Loc), hPw D E B Z (hsJ G a k x) H1 → va_S (hB B) s.heap H1 locs1 → W p l e R s m args below meth c H1 locs1 cells slots Q (F0 m (pc + 3) ls rest)) : W p l e R s m args below meth c H locs cells slots Q (F0 m pc ls (.long x :: .ref a :: rest)) := by
  obtain ⟨q0, hq0⟩ := hWs_at (E := E) hc (hh.lt hc)
  have he : hEnt E G a ci = .inr (ci, hFs G a (hKd ci) 0) := by unfold hEnt; rw [if_pos hci]
  have hfs := hFs_sJ (G := G) (a := a) (x := x) (hKd ci) 0 k hkd
  rw [Nat.zero_add] at hfs
  refine va_put hx hb hts hin ty0 hty hnm hown hE.1 hh.P hh.Dw hS q0 (by rw [hq0, he]) hq k hk hlink hsame hfin hd rfl rfl (by rw [hFs_len]; exact (List.getElem?_eq_some_iff.mp hkd).1) hdg fun H1 locs1 hP1 hD1 hS1 => kk H1 locs1 ?_ hS1
  exact h_putend hE hh hc hci (kd := 1) hfs rfl rfl (fun b hb => hSm_sJ hb) hq0 hP1 hS1
/-- a reference type takes null and any reference -/
def hRt (ty : FieldType) : Prop := ∀ x : Option Nat, narrow ty (va_rf x) = va_rf x ∧ fits ty (va_rf x) = true
theorem hRt_o (C : String) : hRt (.object C) := fun x => by cases x <;> exact ⟨rfl, rfl⟩
theorem hRt_a (t : FieldType) : hRt (.array t) := fun x => by cases x <;> exact ⟨rfl, rfl⟩
theorem hr_putR (hx : p.tables.exec = Jvm.exec) (hb : c.code = cc) {own ref C : String} {T : u_T} {N index ci : Nat} (hts : ∀ w ∈ lw_all, w.before args s = true) (hin : ∀ w ∈ u_ws C T N, w ∈ lw_all) (ty0 : Nat → FieldType) (hty : ∀ k, k < N → parseFieldDescriptor (T k).2.2.1 = some (ty0 k)) (hnm : ∀ a, a < N → ∀ b, b < N → a ≠ b → (T a).2.1 ≠ (T b).2.1) (hown : s.vm.findClass own = some m.cls) (hE : hEs D E B Z s) (hh : hPw D E B Z G H) (hS : va_S (hB B) s.heap H locs) (hc : hC G a = some (ci, true)) (hci : ci < 100) (hq : hCl[ci]? = some (C, T, N)) (k : Nat) (hk : k < N) (hkd : (hKd ci)[k]? = some 2) (hlink : (Cond.fieldLink own index ref (T k).2.1 (T k).2.2.1).before args s = true) (hsame : ∀ x, s.fieldFound? (T k).1 (T k).2.1 (T k).2.2.1 = some x → s.fieldFound? ref (T k).2.1 (T k).2.2.1 = some x) (hfin : (T k).2.2.2 = false) {ty : FieldType} {x : Option Nat} (hd : parseFieldDescriptor (T k).2.2.1 = some ty) (hn : hRt ty) (hdg : decode cc pc = .ok (.putfield index, 3))
    (kk : ∀ (H1 : Heap) (locs1 : List Loc), hPw D E B Z (hsR G a k x) H1 → va_S (hB B) s.heap H1 locs1 → W p l e R s m args below meth c H1 locs1 cells slots Q (F0 m (pc + 3) ls rest)) : W p l e R s m args below meth c H locs cells slots Q (F0 m pc ls (va_rf x :: .ref a :: rest)) := by
  obtain ⟨q0, hq0⟩ := hWs_at (E := E) hc (hh.lt hc)
  have he : hEnt E G a ci = .inr (ci, hFs G a (hKd ci) 0) := by unfold hEnt; rw [if_pos hci]
  have hfs := hFs_sR (G := G) (a := a) (x := x) (hKd ci) 0 k hkd
  rw [Nat.zero_add] at hfs
  refine va_put hx hb hts hin ty0 hty hnm hown hE.1 hh.P hh.Dw hS q0 (by rw [hq0, he]) hq k hk hlink hsame hfin hd (hn x).1 (hn x).2 (by rw [hFs_len]; exact (List.getElem?_eq_some_iff.mp hkd).1) hdg fun H1 locs1 hP1 hD1 hS1 => kk H1 locs1 ?_ hS1
  exact h_putend hE hh hc hci (kd := 2) hfs rfl rfl (fun b hb => hSm_sR hb) hq0 hP1 hS1
/-- final fields, in the constructor -/
theorem hr_putFI (hx : p.tables.exec = Jvm.exec) (hb : c.code = cc) {own ref C : String} {T : u_T} {N index ci : Nat} (hts : ∀ w ∈ lw_all, w.before args s = true) (hin : ∀ w ∈ u_ws C T N, w ∈ lw_all) (ty0 : Nat → FieldType) (hty : ∀ k, k < N → parseFieldDescriptor (T k).2.2.1 = some (ty0 k)) (hnm : ∀ a, a < N → ∀ b, b < N → a ≠ b → (T a).2.1 ≠ (T b).2.1) (hown : s.vm.findClass own = some m.cls) (hE : hEs D E B Z s) (hh : hPw D E B Z G H) (hS : va_S (hB B) s.heap H locs) (hc : hC G a = some (ci, true)) (hci : ci < 100) (hq : hCl[ci]? = some (C, T, N)) (k : Nat) (hk : k < N) (hkd : (hKd ci)[k]? = some 0) (hlink : (Cond.fieldLink own index ref (T k).2.1 (T k).2.2.1).before args s = true) (hsame : ∀ x, s.fieldFound? (T k).1 (T k).2.1 (T k).2.2.1 = some x → s.fieldFound? ref (T k).2.1 (T k).2.2.1 = some x) (hfin : (T k).2.2.2 = true) (hin2 : meth.name = "<init>") (hdecl : (T k).1 = own) {ty : FieldType} {x : Int32} (hd : parseFieldDescriptor (T k).2.2.1 = some ty) (hn : narrow ty (.int x) = .int x ∧ fits ty (.int x) = true) (hdg : decode cc pc = .ok (.putfield index, 3))
    (kk : ∀ (H1 : Heap) (locs1 : List Loc), hPw D E B Z (hsI G a k x) H1 → va_S (hB B) s.heap H1 locs1 → W p l e R s m args below meth c H1 locs1 cells slots Q (F0 m (pc + 3) ls rest)) : W p l e R s m args below meth c H locs cells slots Q (F0 m pc ls (.int x :: .ref a :: rest)) := by
  obtain ⟨q0, hq0⟩ := hWs_at (E := E) hc (hh.lt hc)
  have he : hEnt E G a ci = .inr (ci, hFs G a (hKd ci) 0) := by unfold hEnt; rw [if_pos hci]
  have hfs := hFs_sI (G := G) (a := a) (x := x) (hKd ci) 0 k hkd
  rw [Nat.zero_add] at hfs
  refine va_putF hx hb hts hin ty0 hty hnm hown hE.1 hh.P hh.Dw hS q0 (by rw [hq0, he]) hq k hk hlink hsame hfin hin2 hdecl hd hn.1 hn.2 (by rw [hFs_len]; exact (List.getElem?_eq_some_iff.mp hkd).1) hdg fun H1 locs1 hP1 hD1 hS1 => kk H1 locs1 ?_ hS1
  exact h_putend hE hh hc hci (kd := 0) hfs rfl rfl (fun b hb => hSm_sI hb) hq0 hP1 hS1
theorem hr_putFJ (hx : p.tables.exec = Jvm.exec) (hb : c.code = cc) {own ref C : String} {T : u_T} {N index ci : Nat} (hts : ∀ w ∈ lw_all, w.before args s = true) (hin : ∀ w ∈ u_ws C T N, w ∈ lw_all) (ty0 : Nat → FieldType) (hty : ∀ k, k < N → parseFieldDescriptor (T k).2.2.1 = some (ty0 k)) (hnm : ∀ a, a < N → ∀ b, b < N → a ≠ b → (T a).2.1 ≠ (T b).2.1) (hown : s.vm.findClass own = some m.cls) (hE : hEs D E B Z s) (hh : hPw D E B Z G H) (hS : va_S (hB B) s.heap H locs) (hc : hC G a = some (ci, true)) (hci : ci < 100) (hq : hCl[ci]? = some (C, T, N)) (k : Nat) (hk : k < N) (hkd : (hKd ci)[k]? = some 1) (hlink : (Cond.fieldLink own index ref (T k).2.1 (T k).2.2.1).before args s = true) (hsame : ∀ x, s.fieldFound? (T k).1 (T k).2.1 (T k).2.2.1 = some x → s.fieldFound? ref (T k).2.1 (T k).2.2.1 = some x) (hfin : (T k).2.2.2 = true) (hin2 : meth.name = "<init>") (hdecl : (T k).1 = own) {x : Int64} (hd : parseFieldDescriptor (T k).2.2.1 = some .long) (hdg : decode cc pc = .ok (.putfield index, 3))
    (kk : ∀ (H1 : Heap) (locs1 : List Loc), hPw D E B Z (hsJ G a k x) H1 → va_S (hB B) s.heap H1 locs1 → W p l e R s m args below meth c H1 locs1 cells slots Q (F0 m (pc + 3) ls rest)) : W p l e R s m args below meth c H locs cells slots Q (F0 m pc ls (.long x :: .ref a :: rest)) := by
  obtain ⟨q0, hq0⟩ := hWs_at (E := E) hc (hh.lt hc)
  have he : hEnt E G a ci = .inr (ci, hFs G a (hKd ci) 0) := by unfold hEnt; rw [if_pos hci]
  have hfs := hFs_sJ (G := G) (a := a) (x := x) (hKd ci) 0 k hkd
  rw [Nat.zero_add] at hfs
  refine va_putF hx hb hts hin ty0 hty hnm hown hE.1 hh.P hh.Dw hS q0 (by rw [hq0, he]) hq k hk hlink hsame hfin hin2 hdecl hd rfl rfl (by rw [hFs_len]; exact (List.getElem?_eq_some_iff.mp hkd).1) hdg fun H1 locs1 hP1 hD1 hS1 => kk H1 locs1 ?_ hS1
  exact h_putend hE hh hc hci (kd := 1) hfs rfl rfl (fun b hb => hSm_sJ hb) hq0 hP1 hS1
theorem hr_putFR (hx : p.tables.exec = Jvm.exec) (hb : c.code = cc) {own ref C : String} {T : u_T} {N index ci : Nat} (hts : ∀ w ∈ lw_all, w.before args s = true) (hin : ∀ w ∈ u_ws C T N, w ∈ lw_all) (ty0 : Nat → FieldType) (hty : ∀ k, k < N → parseFieldDescriptor (T k).2.2.1 = some (ty0 k)) (hnm : ∀ a, a < N → ∀ b, b < N → a ≠ b → (T a).2.1 ≠ (T b).2.1) (hown : s.vm.findClass own = some m.cls) (hE : hEs D E B Z s) (hh : hPw D E B Z G H) (hS : va_S (hB B) s.heap H locs) (hc : hC G a = some (ci, true)) (hci : ci < 100) (hq : hCl[ci]? = some (C, T, N)) (k : Nat) (hk : k < N) (hkd : (hKd ci)[k]? = some 2) (hlink : (Cond.fieldLink own index ref (T k).2.1 (T k).2.2.1).before args s = true) (hsame : ∀ x, s.fieldFound? (T k).1 (T k).2.1 (T k).2.2.1 = some x → s.fieldFound? ref (T k).2.1 (T k).2.2.1 = some x) (hfin : (T k).2.2.2 = true) (hin2 : meth.name = "<init>") (hdecl : (T k).1 = own) {ty : FieldType} {x : Option Nat} (hd : parseFieldDescriptor (T k).2.2.1 = some ty) (hn : hRt ty) (hdg : decode cc pc = .ok (.putfield index, 3))
    (kk : ∀ (H1 : Heap) (locs1 : List Loc), hPw D E B Z (hsR G a k x) H1 → va_S (hB B) s.heap H1 locs1 → W p l e R s m args below meth c H1 locs1 cells slots Q (F0 m (pc + 3) ls rest)) : W p l e R s m args below meth c H locs cells slots Q (F0 m pc ls (va_rf x :: .ref a :: rest)) := by
  obtain ⟨q0, hq0⟩ := hWs_at (E := E) hc (hh.lt hc)
  have he : hEnt E G a ci = .inr (ci, hFs G a (hKd ci) 0) := by unfold hEnt; rw [if_pos hci]
  have hfs := hFs_sR (G := G) (a := a) (x := x) (hKd ci) 0 k hkd
  rw [Nat.zero_add] at hfs
  refine va_putF hx hb hts hin ty0 hty hnm hown hE.1 hh.P hh.Dw hS q0 (by rw [hq0, he]) hq k hk hlink hsame hfin hin2 hdecl hd (hn x).1 (hn x).2 (by rw [hFs_len]; exact (List.getElem?_eq_some_iff.mp hkd).1) hdg fun H1 locs1 hP1 hD1 hS1 => kk H1 locs1 ?_ hS1
  exact h_putend hE hh hc hci (kd := 2) hfs rfl rfl (fun b hb => hSm_sR hb) hq0 hP1 hS1
/-! arrays: reads of made ones and of constants, writes of made ones -/
theorem hr_iald (hx : p.tables.exec = Jvm.exec) (hb : c.code = cc) (hE : hEs D E B Z s) (hh : hPw D E B Z G H) (hS : va_S (hB B) s.heap H locs) (hc : hcl G a 100) {i : Int32} (hi : vp_in i (hN G a)) (hdg : decode cc pc = .ok (.iaload, 1))
    (kk : W p l e R s m args below meth c H locs cells slots Q (F0 m (pc + 1) ls (.int (hI G a i.toNatClampNeg) :: rest))) : W p l e R s m args below meth c H locs cells slots Q (F0 m pc ls (.int i :: .ref a :: rest)) := by
  rcases hc with hc | hc
  · exact va_iald hx hb hE.1 (h_one (hh.atA (t := 0) hc)) 0 0 rfl rfl hi hdg kk
  · obtain ⟨ty, h1, h2⟩ := hh.atC (t := 0) hE hc
    cases h1
    exact va_ti hx hb h2 hS hi rfl hdg kk
theorem hr_lald (hx : p.tables.exec = Jvm.exec) (hb : c.code = cc) (hE : hEs D E B Z s) (hh : hPw D E B Z G H) (hS : va_S (hB B) s.heap H locs) (hc : hcl G a 101) {i : Int32} (hi : vp_in i (hN G a)) (hdg : decode cc pc = .ok (.laload, 1))
    (kk : W p l e R s m args below meth c H locs cells slots Q (F0 m (pc + 1) ls (.long (hJ G a i.toNatClampNeg) :: rest))) : W p l e R s m args below meth c H locs cells slots Q (F0 m pc ls (.int i :: .ref a :: rest)) := by
  rcases hc with hc | hc
  · exact va_lald hx hb hE.1 (h_one (hh.atA (t := 1) hc)) 0 1 rfl rfl hi hdg kk
  · obtain ⟨ty, h1, h2⟩ := hh.atC (t := 1) hE hc
    cases h1
    exact va_tl hx hb h2 hS hi rfl hdg kk
theorem hr_bald (hx : p.tables.exec = Jvm.exec) (hb : c.code = cc) (hE : hEs D E B Z s) (hh : hPw D E B Z G H) (hS : va_S (hB B) s.heap H locs) (hc : hcl G a 102) {i : Int32} (hi : vp_in i (hN G a)) (hdg : decode cc pc = .ok (.baload, 1))
    (kk : W p l e R s m args below meth c H locs cells slots Q (F0 m (pc + 1) ls (.int (hI G a i.toNatClampNeg) :: rest))) : W p l e R s m args below meth c H locs cells slots Q (F0 m pc ls (.int i :: .ref a :: rest)) := by
  rcases hc with hc | hc
  · exact va_bald hx hb hE.1 (h_one (hh.atA (t := 2) hc)) 0 2 rfl rfl hi hdg kk
  · obtain ⟨ty, h1, h2⟩ := hh.atC (t := 2) hE hc
    cases h1
    exact va_tb hx hb h2 hS hi rfl hdg kk
theorem hr_alen (t : Nat) (hx : p.tables.exec = Jvm.exec) (hb : c.code = cc) (hE : hEs D E B Z s) (hh : hPw D E B Z G H) (hS : va_S (hB B) s.heap H locs) (hc : hcl G a (100 + t)) {ty : FieldType} (ht : (hTys E)[t]? = some (E t, ty)) (hdg : decode cc pc = .ok (.arraylength, 1))
    (kk : W p l e R s m args below meth c H locs cells slots Q (F0 m (pc + 1) ls (.int (nI (hN G a)) :: rest))) : W p l e R s m args below meth c H locs cells slots Q (F0 m pc ls (.ref a :: rest)) := by
  rcases hc with hc | hc
  · refine va_alen hx hb hE.1 (h_one (hh.atA (t := t) hc)) 0 t rfl ht (v := nI (hN G a)) ?_ hdg kk
    unfold hArr
    split <;> rfl
  · obtain ⟨ty, h1, h2⟩ := hh.atC (t := t) hE hc
    exact va_tlen hx hb h2 hS rfl hdg kk
theorem h_arrend {t : Nat} {G' : hG} {e' : vp_A} (hE : hEs D E B Z s) (hh : hPw D E B Z G H) (hc : hC G a = some (100 + t, true)) (he' : hArr G' a (hAk t) = e') (hC' : hC G' = hC G) (hK' : hK G' = hK G) (hs : ∀ b, b ≠ a → hSm G G' b) {q0 : Nat} {H1 : Heap} {locs1 : List Loc} (hq0 : (hWs E G H.size)[q0]? = some (a, hEnt E G a (100 + t))) (hP1 : va_P D hCl ((hWs E G H.size).set q0 (a, .inl (E t, e'))) H1) (hS1 : va_S (hB B) s.heap H1 locs1) : hPw D E B Z G' H1 :=
  hh.set hc hq0 hP1 (Nat.le_trans hE.2.2.2.2 hS1.1) hC' hK' (by unfold hEnt; rw [if_neg (by omega), Nat.add_sub_cancel_left, he']) hs
theorem hr_iast (hx : p.tables.exec = Jvm.exec) (hb : c.code = cc) (hE : hEs D E B Z s) (hh : hPw D E B Z G H) (hS : va_S (hB B) s.heap H locs) (hc : hC G a = some (100, true)) {i x : Int32} (hi : vp_in i (hN G a)) (hdg : decode cc pc = .ok (.iastore, 1))
    (kk : ∀ (H1 : Heap) (locs1 : List Loc), hPw D E B Z (hsI G a i.toNatClampNeg x) H1 → va_S (hB B) s.heap H1 locs1 → W p l e R s m args below meth c H1 locs1 cells slots Q (F0 m (pc + 1) ls rest)) : W p l e R s m args below meth c H locs cells slots Q (F0 m pc ls (.int x :: .int i :: .ref a :: rest)) := by
  obtain ⟨q0, hq0⟩ := hWs_at (E := E) hc (hh.lt hc)
  refine va_iast hx hb hE.1 hh.P hh.Dw hS q0 0 (n := hN G a) (f := hI G a) (cA := E 0) hq0 rfl hi hdg fun H1 locs1 hP1 hD1 hS1 => kk H1 locs1 ?_ hS1
  refine h_arrend (t := 0) (G' := hsI G a i.toNatClampNeg x) hE hh hc ?_ rfl rfl (fun b hb => hSm_sI hb) hq0 hP1 hS1
  show (hN G a, Sum.inl (hI (hsI G a i.toNatClampNeg x) a)) = _
  congr 2
  funext j
  rw [hI_sI]
  unfold upd
  simp
theorem hr_bast (hx : p.tables.exec = Jvm.exec) (hb : c.code = cc) (hE : hEs D E B Z s) (hh : hPw D E B Z G H) (hS : va_S (hB B) s.heap H locs) (hc : hC G a = some (102, true)) {i x : Int32} (hi : vp_in i (hN G a)) (hdg : decode cc pc = .ok (.bastore, 1))
    (kk : ∀ (H1 : Heap) (locs1 : List Loc), hPw D E B Z (hsI G a i.toNatClampNeg x.toInt8.toInt32) H1 → va_S (hB B) s.heap H1 locs1 → W p l e R s m args below meth c H1 locs1 cells slots Q (F0 m (pc + 1) ls rest)) : W p l e R s m args below meth c H locs cells slots Q (F0 m pc ls (.int x :: .int i :: .ref a :: rest)) := by
  obtain ⟨q0, hq0⟩ := hWs_at (E := E) hc (hh.lt hc)
  refine va_bast hx hb hE.1 hh.P hh.Dw hS q0 2 (n := hN G a) (f := hI G a) (cA := E 2) hq0 rfl hi hdg fun H1 locs1 hP1 hD1 hS1 => kk H1 locs1 ?_ hS1
  refine h_arrend (t := 2) (G' := hsI G a i.toNatClampNeg x.toInt8.toInt32) hE hh hc ?_ rfl rfl (fun b hb => hSm_sI hb) hq0 hP1 hS1
  show (hN G a, Sum.inl (hI (hsI G a i.toNatClampNeg _) a)) = _
  congr 2
  funext j
  rw [hI_sI, vp_nar_byte]
  unfold upd
  simp
theorem hr_last (hx : p.tables.exec = Jvm.exec) (hb : c.code = cc) (hE : hEs D E B Z s) (hh : hPw D E B Z G H) (hS : va_S (hB B) s.heap H locs) (hc : hC G a = some (101, true)) {i : Int32} {x : Int64} (hi : vp_in i (hN G a)) (hdg : decode cc pc = .ok (.lastore, 1))
    (kk : ∀ (H1 : Heap) (locs1 : List Loc), hPw D E B Z (hsJ G a i.toNatClampNeg x) H1 → va_S (hB B) s.heap H1 locs1 → W p l e R s m args below meth c H1 locs1 cells slots Q (F0 m (pc + 1) ls rest)) : W p l e R s m args below meth c H locs cells slots Q (F0 m pc ls (.long x :: .int i :: .ref a :: rest)) := by
  obtain ⟨q0, hq0⟩ := hWs_at (E := E) hc (hh.lt hc)
  refine va_last hx hb hE.1 hh.P hh.Dw hS q0 1 (n := hN G a) (f := hJ G a) (cA := E 1) hq0 rfl hi hdg fun H1 locs1 hP1 hD1 hS1 => kk H1 locs1 ?_ hS1
  refine h_arrend (t := 1) (G' := hsJ G a i.toNatClampNeg x) hE hh hc ?_ rfl rfl (fun b hb => hSm_sJ hb) hq0 hP1 hS1
  show (hN G a, Sum.inr (Sum.inl (hJ (hsJ G a i.toNatClampNeg x) a))) = _
  congr 3
  funext j
  rw [hJ_sJ]
  unfold vp_updL
  simp
theorem hr_new (hx : p.tables.exec = Jvm.exec) (hb : c.code = cc) {own C : String} {T : u_T} {N ci index : Nat} (hts : ∀ w ∈ lw_all, w.before args s = true) (hin : ∀ w ∈ u_ws C T N, w ∈ lw_all) (ty : Nat → FieldType) (hty : ∀ k, k < N → parseFieldDescriptor (T k).2.2.1 = some (ty k)) (hown : s.vm.findClass own = some m.cls) (hcl : (Cond.classLink own index C).before args s = true) (hinst : (Cond.instantiable C N).before args s = true) (hini : (Cond.initialized C).before args s = true)
    (hE : hEs D E B Z s) (hh : hPw D E B Z G H) (hS : va_S (hB B) s.heap H locs) (hq : hCl[ci]? = some (C, T, N)) (hci : ci < 100) (hfs : ∀ j, j < N → defaultValue (ty j) = vp_V ((hKd ci).map hDf) j) (hcells : cells + 1 ≤ R.cells) (hslots : slots + N ≤ R.slots) (hdg : decode cc pc = .ok (.new index, 3))
    (kk : ∀ (q : Nat) (H1 : Heap), hfr G q → hPw D E B Z (hnw G q ci 0) H1 → va_S (hB B) s.heap H1 locs → W p l e R s m args below meth c H1 locs (cells + 1) (slots + N) Q (F0 m (pc + 3) ls (.ref q :: rest))) : W p l e R s m args below meth c H locs cells slots Q (F0 m pc ls rest) := by
  refine va_new hx hb hts hin ty hty hown hcl hinst hini hE.1 hh.P hh.Dw hS (fun q h => Nat.le_trans hE.2.2.2.2 h) hq hfs hcells hslots hdg fun q H1 hP1 hD1 hS1 => ?_
  obtain ⟨h1, h2⟩ := hh.push (q := q) (ci := ci) (n := 0) hP1 hD1 (Nat.le_trans hE.2.2.2.2 hS1.1) (by unfold hEnt; rw [if_pos hci, hFs_nw])
  exact kk q H1 h1 h2 hS1
theorem hr_newa (t : Nat) {atype : ArrayType} {ty : FieldType} (hx : p.tables.exec = Jvm.exec) (hb : c.code = cc) (harr : (Cond.arrayClass (newarray.typeOf atype)).before args s = true) (hty : newarray.typeOf atype = ty) (hE : hEs D E B Z s) (hh : hPw D E B Z G H) (hS : va_S (hB B) s.heap H locs) (ht : (hTys E)[t]? = some (E t, ty)) (hprim : ∀ cA, va_RA s cA ty ↔ s.vm.findClass ("[" ++ ty.toString) = some cA) {a0 : Nat → vp_A} {n : Int32} {N : Nat} (ha0 : ∀ cA : ClassId, vp_cell cA (a0 N) = arrV cA N (fun _ => defaultValue ty)) (ha1 : ∀ q, hArr (hnw G q (100 + t) N) q (hAk t) = a0 N) (hn : ¬ n < 0) (hN' : n.toNatClampNeg = N) (hbytes : N * componentBytes ty ≤ 536870912) (hcells : cells + 1 ≤ R.cells) (hslots : slots + N ≤ R.slots) (hdg : decode cc pc = .ok (.newarray atype, 2))
    (kk : ∀ (q : Nat) (H1 : Heap), hfr G q → hPw D E B Z (hnw G q (100 + t) N) H1 → va_S (hB B) s.heap H1 locs → W p l e R s m args below meth c H1 locs (cells + 1) (slots + N) Q (F0 m (pc + 2) ls (.ref q :: rest))) : W p l e R s m args below meth c H locs cells slots Q (F0 m pc ls (.int n :: rest)) := by
  refine va_newa hx hb harr hty hE.1 hh.P hh.Dw hS (fun q h => Nat.le_trans hE.2.2.2.2 h) (a0 := a0 N) ha0 hn hN' hbytes hcells hslots hdg fun q cA H1 hK1 hP1 hD1 hS1 => ?_
  have e1 : s.vm.findClass ("[" ++ ty.toString) = some cA := (hprim cA).mp (hK1.2 (hTys E).length (cA, ty) (by simp)).2
  have e2 : s.vm.findClass ("[" ++ ty.toString) = some (E t) := (hprim _).mp (hE.1.2 t _ ht).2
  have e3 : cA = E t := Option.some.inj (e1.symm.trans e2)
  subst e3
  obtain ⟨h1, h2⟩ := hh.push (q := q) (ci := 100 + t) (n := N) hP1 hD1 (Nat.le_trans hE.2.2.2.2 hS1.1) (by unfold hEnt; rw [if_neg (by omega), Nat.add_sub_cancel_left, ha1])
  exact kk q H1 h1 h2 hS1
/-! references on the stack and in the locals -/
theorem hr_null (hx : p.tables.exec = Jvm.exec) (hb : c.code = cc) (hdg : decode cc pc = .ok (.aconst_null, 1)) (k : W p l e R s m args below meth c H locs cells slots Q (F0 m (pc + 1) ls (va_rf none :: rest))) : W p l e R s m args below meth c H locs cells slots Q (F0 m pc ls rest) := lv_null hx hb hdg k
theorem hr_aload_n (hx : p.tables.exec = Jvm.exec) (hb : c.code = cc) {k : Fin 4} {i : Nat} {x : Option Nat} (hdg : decode cc pc = .ok (.aload_n k, 1)) (hi : (k : Nat) = i) (hl : ls[i]? = some (.val (va_rf x))) (kk : W p l e R s m args below meth c H locs cells slots Q (F0 m (pc + 1) ls (va_rf x :: rest))) : W p l e R s m args below meth c H locs cells slots Q (F0 m pc ls rest) := by
  cases x with
  | none => exact lv_aload_nN hx hb hdg hi hl kk
  | some x => exact lv_aload_n hx hb hdg hi hl kk
theorem hr_aload (hx : p.tables.exec = Jvm.exec) (hb : c.code = cc) {i : Nat} {x : Option Nat} (hdg : decode cc pc = .ok (.aload i, 2)) (hl : ls[i]? = some (.val (va_rf x))) (kk : W p l e R s m args below meth c H locs cells slots Q (F0 m (pc + 2) ls (va_rf x :: rest))) : W p l e R s m args below meth c H locs cells slots Q (F0 m pc ls rest) := by
  cases x with
  | none => exact lv_aloadN hx hb hdg hl kk
  | some x => exact lv_aload hx hb hdg hl kk
theorem hr_astore_n (hx : p.tables.exec = Jvm.exec) (hb : c.code = cc) {k : Fin 4} {i nL : Nat} {x : Option Nat} {lv lv' : List (Nat × Value)} (hdg : decode cc pc = .ok (.astore_n k, 1)) (hi : (k : Nat) = i) (h : lv_has ls nL lv) (hn : i < nL) (hl : (i, va_rf x) :: lv.filter (fun q => !(q.1 == i) && !(q.1 + 1 == i && q.2.category == 2)) = lv') (kk : ∀ ls' : Array Slot, lv_has ls' nL lv' → W p l e R s m args below meth c H locs cells slots Q (F0 m (pc + 1) ls' rest)) : W p l e R s m args below meth c H locs cells slots Q (F0 m pc ls (va_rf x :: rest)) := by
  cases x with
  | none => exact lv_astore_nN hx hb hdg hi h hn hl kk
  | some x => exact lv_astore_n hx hb hdg hi h hn hl kk
theorem hr_astore (hx : p.tables.exec = Jvm.exec) (hb : c.code = cc) {i nL : Nat} {x : Option Nat} {lv lv' : List (Nat × Value)} (hdg : decode cc pc = .ok (.astore i, 2)) (h : lv_has ls nL lv) (hn : i < nL) (hl : (i, va_rf x) :: lv.filter (fun q => !(q.1 == i) && !(q.1 + 1 == i && q.2.category == 2)) = lv') (kk : ∀ ls' : Array Slot, lv_has ls' nL lv' → W p l e R s m args below meth c H locs cells slots Q (F0 m (pc + 2) ls' rest)) : W p l e R s m args below meth c H locs cells slots Q (F0 m pc ls (va_rf x :: rest)) := by
  cases x with
  | none => exact lv_astoreN hx hb hdg h hn hl kk
  | some x => exact lv_astore hx hb hdg h hn hl kk
theorem hr_ifnull (hx : p.tables.exec = Jvm.exec) (hb : c.code = cc) {x : Option Nat} {off : Int} {tgt : Nat} (hdg : decode cc pc = .ok (.ifnull off, 3)) (ht : (pc : Int) + off = (tgt : Int)) (kt : x = none → W p l e R s m args below meth c H locs cells slots Q (F0 m tgt ls rest)) (kf : ∀ y, x = some y → W p l e R s m args below meth c H locs cells slots Q (F0 m (pc + 3) ls rest)) : W p l e R s m args below meth c H locs cells slots Q (F0 m pc ls (va_rf x :: rest)) := by
  cases x with
  | none => exact lv_ifnullN hx hb hdg ht (kt rfl)
  | some x => exact lv_ifnull hx hb hdg (kf x rfl)
theorem hr_ifnonnull (hx : p.tables.exec = Jvm.exec) (hb : c.code = cc) {x : Option Nat} {off : Int} {tgt : Nat} (hdg : decode cc pc = .ok (.ifnonnull off, 3)) (ht : (pc : Int) + off = (tgt : Int)) (kt : x = none → W p l e R s m args below meth c H locs cells slots Q (F0 m (pc + 3) ls rest)) (kf : ∀ y, x = some y → W p l e R s m args below meth c H locs cells slots Q (F0 m tgt ls rest)) : W p l e R s m args below meth c H locs cells slots Q (F0 m pc ls (va_rf x :: rest)) := by
  cases x with
  | none => exact lv_ifnonnullN hx hb hdg (kt rfl)
  | some x => exact lv_ifnonnull hx hb hdg ht (kf x rfl)
theorem hlg_lt {x y : Int64} : lg_cmp x y < 0 ↔ x < y := by
  unfold lg_cmp
  by_cases h1 : x > y
  · rw [if_pos h1]
    constructor
    · intro h; exact absurd h (by decide)
    · intro h; exact absurd h (Int64.not_lt.mpr (Int64.le_of_lt h1))
  · rw [if_neg h1]
    by_cases h2 : x = y
    · subst h2
      rw [if_pos rfl]
      constructor
      · intro h; exact absurd h (by decide)
      · intro h; exact absurd h h1
    · rw [if_neg h2]
      constructor
      · intro _
        rcases Int64.lt_or_le x y with h | h
        · exact h
        · exact absurd (Int64.lt_of_le_of_ne h (Ne.symm h2)) h1
      · intro _; decide
theorem hlg_eq {x y : Int64} : lg_cmp x y = 0 ↔ x = y := by
  unfold lg_cmp
  by_cases h1 : x > y
  · rw [if_pos h1]
    constructor
    · intro h; exact absurd h (by decide)
    · intro h; subst h; exact absurd h1 (Int64.lt_irrefl)
  · rw [if_neg h1]
    by_cases h2 : x = y
    · rw [if_pos h2]; exact ⟨fun _ => h2, fun _ => rfl⟩
    · rw [if_neg h2]
      exact ⟨fun h => absurd h (by decide), fun h => absurd h h2⟩
theorem hlg_gt {x y : Int64} : 0 < lg_cmp x y ↔ y < x := by
  unfold lg_cmp
  by_cases h1 : x > y
  · rw [if_pos h1]; exact ⟨fun _ => h1, fun _ => by decide⟩
  · rw [if_neg h1]
    by_cases h2 : x = y
    · rw [if_pos h2]; exact ⟨fun h => absurd h (by decide), fun h => absurd h h1⟩
    · rw [if_neg h2]; exact ⟨fun h => absurd h (by decide), fun h => absurd h h1⟩
theorem hlg_le {x y : Int64} : lg_cmp x y ≤ 0 ↔ x ≤ y := by
  rw [← Int32.not_lt, hlg_gt, Int64.not_lt]
theorem hlg_ge {x y : Int64} : 0 ≤ lg_cmp x y ↔ y ≤ x := by
  rw [← Int32.not_lt, hlg_lt, Int64.not_lt]
/-! calls -/
theorem hr_cVi {y : MethodName} {bytes : ByteArray} {maxL nL mc ms n index ci : Nat} {ret : Option FieldType} {ws : List Cond} {rm : Room} {own C : String} {T : u_T} {N b : Nat} {As st : List Value} {Qn : hG → Int32 → Prop} (S : CallFix p m c cc nL s args lw_all own) (hM : Met l y ws rm (hPre D E B Z G (.ref b :: As)) (hQi D E B Z Qn) mc ms (hB B)) (cw : CallW R s args own C index y bytes maxL ret ws rm mc ms n) (hE : hEs D E B Z s) (hh : hPw D E B Z G H) (hS : va_S (hB B) s.heap H locs) (hc : hcl G b ci) (hci : ci < 100) (hq : hCl[ci]? = some (C, T, N)) (hst : st = As.reverse ++ .ref b :: rest) (hn : As.length = n) (hsz : ls.size = nL) (hr : (rest.map fun v => v.category).sum ≤ 8) (hdg : decode cc pc = .ok (.invokevirtual index, 3)) (hf : cells + mc ≤ R.cells ∧ slots + ms ≤ R.slots)
    (kk : ∀ (G' : hG) (r : Int32) (H1 : Heap) (locs1 : List Loc), Qn G' r → hPw D E B Z G' H1 → va_S (hB B) s.heap H1 locs1 → W p l e R s m args below meth c H1 locs1 (cells + mc) (slots + ms) Q (F0 m (pc + 3) ls (.int r :: rest))) : W p l e R s m args below meth c H locs cells slots Q (F0 m pc ls st) :=
  va_calli (va_runV S hM cw ⟨hPre.blind, hr_recv hE hh hS hc hci hq, hPre.at hE hh hS⟩ rfl hn hsz hst (lv_room hr) hdg hf) hS (fun q _ h => h) (fun q h => h) (fun r u t H1 locs1 ht hvm hw hB hz hk hS1 => kk u r H1 locs1 hw (by rw [← ht]; exact hB) hS1)
theorem hr_cVl {y : MethodName} {bytes : ByteArray} {maxL nL mc ms n index ci : Nat} {ret : Option FieldType} {ws : List Cond} {rm : Room} {own C : String} {T : u_T} {N b : Nat} {As st : List Value} {Qn : hG → Int64 → Prop} (S : CallFix p m c cc nL s args lw_all own) (hM : Met l y ws rm (hPre D E B Z G (.ref b :: As)) (hQl D E B Z Qn) mc ms (hB B)) (cw : CallW R s args own C index y bytes maxL ret ws rm mc ms n) (hE : hEs D E B Z s) (hh : hPw D E B Z G H) (hS : va_S (hB B) s.heap H locs) (hc : hcl G b ci) (hci : ci < 100) (hq : hCl[ci]? = some (C, T, N)) (hst : st = As.reverse ++ .ref b :: rest) (hn : As.length = n) (hsz : ls.size = nL) (hr : (rest.map fun v => v.category).sum ≤ 8) (hdg : decode cc pc = .ok (.invokevirtual index, 3)) (hf : cells + mc ≤ R.cells ∧ slots + ms ≤ R.slots)
    (kk : ∀ (G' : hG) (r : Int64) (H1 : Heap) (locs1 : List Loc), Qn G' r → hPw D E B Z G' H1 → va_S (hB B) s.heap H1 locs1 → W p l e R s m args below meth c H1 locs1 (cells + mc) (slots + ms) Q (F0 m (pc + 3) ls (.long r :: rest))) : W p l e R s m args below meth c H locs cells slots Q (F0 m pc ls st) :=
  va_calll (va_runV S hM cw ⟨hPre.blind, hr_recv hE hh hS hc hci hq, hPre.at hE hh hS⟩ rfl hn hsz hst (lv_room hr) hdg hf) hS (fun q _ h => h) (fun q h => h) (fun r u t H1 locs1 ht hvm hw hB hz hk hS1 => kk u r H1 locs1 hw (by rw [← ht]; exact hB) hS1)
theorem hr_cVv {y : MethodName} {bytes : ByteArray} {maxL nL mc ms n index ci : Nat} {ret : Option FieldType} {ws : List Cond} {rm : Room} {own C : String} {T : u_T} {N b : Nat} {As st : List Value} {Qn : hG → Prop} (S : CallFix p m c cc nL s args lw_all own) (hM : Met l y ws rm (hPre D E B Z G (.ref b :: As)) (hQv D E B Z Qn) mc ms (hB B)) (cw : CallW R s args own C index y bytes maxL ret ws rm mc ms n) (hE : hEs D E B Z s) (hh : hPw D E B Z G H) (hS : va_S (hB B) s.heap H locs) (hc : hcl G b ci) (hci : ci < 100) (hq : hCl[ci]? = some (C, T, N)) (hst : st = As.reverse ++ .ref b :: rest) (hn : As.length = n) (hsz : ls.size = nL) (hr : (rest.map fun v => v.category).sum ≤ 8) (hdg : decode cc pc = .ok (.invokevirtual index, 3)) (hf : cells + mc ≤ R.cells ∧ slots + ms ≤ R.slots)
    (kk : ∀ (G' : hG) (H1 : Heap) (locs1 : List Loc), Qn G' → hPw D E B Z G' H1 → va_S (hB B) s.heap H1 locs1 → W p l e R s m args below meth c H1 locs1 (cells + mc) (slots + ms) Q (F0 m (pc + 3) ls rest)) : W p l e R s m args below meth c H locs cells slots Q (F0 m pc ls st) :=
  va_callv (va_runV S hM cw ⟨hPre.blind, hr_recv hE hh hS hc hci hq, hPre.at hE hh hS⟩ rfl hn hsz hst (lv_room hr) hdg hf) hS (fun q _ h => h) (fun q h => h) (fun u t H1 locs1 ht hvm hw hB hz hk hS1 => kk u H1 locs1 hw (by rw [← ht]; exact hB) hS1)
theorem hr_cVq {y : MethodName} {bytes : ByteArray} {maxL nL mc ms n index ci : Nat} {ret : Option FieldType} {ws : List Cond} {rm : Room} {own C : String} {T : u_T} {N b : Nat} {As st : List Value} {Qn : hG → Option Nat → Prop} (S : CallFix p m c cc nL s args lw_all own) (hM : Met l y ws rm (hPre D E B Z G (.ref b :: As)) (hQq D E B Z Qn) mc ms (hB B)) (cw : CallW R s args own C index y bytes maxL ret ws rm mc ms n) (hE : hEs D E B Z s) (hh : hPw D E B Z G H) (hS : va_S (hB B) s.heap H locs) (hc : hcl G b ci) (hci : ci < 100) (hq : hCl[ci]? = some (C, T, N)) (hst : st = As.reverse ++ .ref b :: rest) (hn : As.length = n) (hsz : ls.size = nL) (hr : (rest.map fun v => v.category).sum ≤ 8) (hdg : decode cc pc = .ok (.invokevirtual index, 3)) (hf : cells + mc ≤ R.cells ∧ slots + ms ≤ R.slots)
    (kk : ∀ (G' : hG) (r : Option Nat) (H1 : Heap) (locs1 : List Loc), Qn G' r → hPw D E B Z G' H1 → va_S (hB B) s.heap H1 locs1 → W p l e R s m args below meth c H1 locs1 (cells + mc) (slots + ms) Q (F0 m (pc + 3) ls (va_rf r :: rest))) : W p l e R s m args below meth c H locs cells slots Q (F0 m pc ls st) :=
  va_callq (va_runV S hM cw ⟨hPre.blind, hr_recv hE hh hS hc hci hq, hPre.at hE hh hS⟩ rfl hn hsz hst (lv_room hr) hdg hf) hS (fun q _ h => h) (fun q h => h) (fun r u t H1 locs1 ht hvm hw hB hz hk hS1 => kk u r H1 locs1 hw (by rw [← ht]; exact hB) hS1)
theorem hr_cSi {y : MethodName} {bytes : ByteArray} {maxL nL mc ms n index : Nat} {ret : Option FieldType} {ws : List Cond} {rm : Room} {own : String} {As st : List Value} {Qn : hG → Int32 → Prop} (S : CallFix p m c cc nL s args lw_all own) (hM : Met l y ws rm (hPre D E B Z G As) (hQi D E B Z Qn) mc ms (hB B)) (cw : CallB R s args own index y bytes maxL ret ws rm mc ms n ∧ (Cond.static y).before args s = true) (hE : hEs D E B Z s) (hh : hPw D E B Z G H) (hS : va_S (hB B) s.heap H locs) (hst : st = As.reverse ++ rest) (hn : As.length = n) (hsz : ls.size = nL) (hr : (rest.map fun v => v.category).sum ≤ 8) (hdg : decode cc pc = .ok (.invokestatic index, 3)) (hf : cells + mc ≤ R.cells ∧ slots + ms ≤ R.slots)
    (kk : ∀ (G' : hG) (r : Int32) (H1 : Heap) (locs1 : List Loc), Qn G' r → hPw D E B Z G' H1 → va_S (hB B) s.heap H1 locs1 → W p l e R s m args below meth c H1 locs1 (cells + mc) (slots + ms) Q (F0 m (pc + 3) ls (.int r :: rest))) : W p l e R s m args below meth c H locs cells slots Q (F0 m pc ls st) :=
  va_calli (va_runS S hM cw ⟨hPre.blind, hPre.at hE hh hS⟩ rfl hn hsz hst (lv_room hr) hdg hf) hS (fun q _ h => h) (fun q h => h) (fun r u t H1 locs1 ht hvm hw hB hz hk hS1 => kk u r H1 locs1 hw (by rw [← ht]; exact hB) hS1)
theorem hr_cSl {y : MethodName} {bytes : ByteArray} {maxL nL mc ms n index : Nat} {ret : Option FieldType} {ws : List Cond} {rm : Room} {own : String} {As st : List Value} {Qn : hG → Int64 → Prop} (S : CallFix p m c cc nL s args lw_all own) (hM : Met l y ws rm (hPre D E B Z G As) (hQl D E B Z Qn) mc ms (hB B)) (cw : CallB R s args own index y bytes maxL ret ws rm mc ms n ∧ (Cond.static y).before args s = true) (hE : hEs D E B Z s) (hh : hPw D E B Z G H) (hS : va_S (hB B) s.heap H locs) (hst : st = As.reverse ++ rest) (hn : As.length = n) (hsz : ls.size = nL) (hr : (rest.map fun v => v.category).sum ≤ 8) (hdg : decode cc pc = .ok (.invokestatic index, 3)) (hf : cells + mc ≤ R.cells ∧ slots + ms ≤ R.slots)
    (kk : ∀ (G' : hG) (r : Int64) (H1 : Heap) (locs1 : List Loc), Qn G' r → hPw D E B Z G' H1 → va_S (hB B) s.heap H1 locs1 → W p l e R s m args below meth c H1 locs1 (cells + mc) (slots + ms) Q (F0 m (pc + 3) ls (.long r :: rest))) : W p l e R s m args below meth c H locs cells slots Q (F0 m pc ls st) :=
  va_calll (va_runS S hM cw ⟨hPre.blind, hPre.at hE hh hS⟩ rfl hn hsz hst (lv_room hr) hdg hf) hS (fun q _ h => h) (fun q h => h) (fun r u t H1 locs1 ht hvm hw hB hz hk hS1 => kk u r H1 locs1 hw (by rw [← ht]; exact hB) hS1)
theorem hr_cSv {y : MethodName} {bytes : ByteArray} {maxL nL mc ms n index : Nat} {ret : Option FieldType} {ws : List Cond} {rm : Room} {own : String} {As st : List Value} {Qn : hG → Prop} (S : CallFix p m c cc nL s args lw_all own) (hM : Met l y ws rm (hPre D E B Z G As) (hQv D E B Z Qn) mc ms (hB B)) (cw : CallB R s args own index y bytes maxL ret ws rm mc ms n ∧ (Cond.static y).before args s = true) (hE : hEs D E B Z s) (hh : hPw D E B Z G H) (hS : va_S (hB B) s.heap H locs) (hst : st = As.reverse ++ rest) (hn : As.length = n) (hsz : ls.size = nL) (hr : (rest.map fun v => v.category).sum ≤ 8) (hdg : decode cc pc = .ok (.invokestatic index, 3)) (hf : cells + mc ≤ R.cells ∧ slots + ms ≤ R.slots)
    (kk : ∀ (G' : hG) (H1 : Heap) (locs1 : List Loc), Qn G' → hPw D E B Z G' H1 → va_S (hB B) s.heap H1 locs1 → W p l e R s m args below meth c H1 locs1 (cells + mc) (slots + ms) Q (F0 m (pc + 3) ls rest)) : W p l e R s m args below meth c H locs cells slots Q (F0 m pc ls st) :=
  va_callv (va_runS S hM cw ⟨hPre.blind, hPre.at hE hh hS⟩ rfl hn hsz hst (lv_room hr) hdg hf) hS (fun q _ h => h) (fun q h => h) (fun u t H1 locs1 ht hvm hw hB hz hk hS1 => kk u H1 locs1 hw (by rw [← ht]; exact hB) hS1)
theorem hr_cSq {y : MethodName} {bytes : ByteArray} {maxL nL mc ms n index : Nat} {ret : Option FieldType} {ws : List Cond} {rm : Room} {own : String} {As st : List Value} {Qn : hG → Option Nat → Prop} (S : CallFix p m c cc nL s args lw_all own) (hM : Met l y ws rm (hPre D E B Z G As) (hQq D E B Z Qn) mc ms (hB B)) (cw : CallB R s args own index y bytes maxL ret ws rm mc ms n ∧ (Cond.static y).before args s = true) (hE : hEs D E B Z s) (hh : hPw D E B Z G H) (hS : va_S (hB B) s.heap H locs) (hst : st = As.reverse ++ rest) (hn : As.length = n) (hsz : ls.size = nL) (hr : (rest.map fun v => v.category).sum ≤ 8) (hdg : decode cc pc = .ok (.invokestatic index, 3)) (hf : cells + mc ≤ R.cells ∧ slots + ms ≤ R.slots)
    (kk : ∀ (G' : hG) (r : Option Nat) (H1 : Heap) (locs1 : List Loc), Qn G' r → hPw D E B Z G' H1 → va_S (hB B) s.heap H1 locs1 → W p l e R s m args below meth c H1 locs1 (cells + mc) (slots + ms) Q (F0 m (pc + 3) ls (va_rf r :: rest))) : W p l e R s m args below meth c H locs cells slots Q (F0 m pc ls st) :=
  va_callq (va_runS S hM cw ⟨hPre.blind, hPre.at hE hh hS⟩ rfl hn hsz hst (lv_room hr) hdg hf) hS (fun q _ h => h) (fun q h => h) (fun r u t H1 locs1 ht hvm hw hB hz hk hS1 => kk u r H1 locs1 hw (by rw [← ht]; exact hB) hS1)
theorem hr_cI {y : MethodName} {bytes : ByteArray} {maxL nL mc ms n index : Nat} {ws : List Cond} {rm : Room} {own : String} {b : Nat} {As st : List Value} {Qn : hG → Prop} (S : CallFix p m c cc nL s args lw_all own) (hM : Met l y ws rm (hPre D E B Z G (.ref b :: As)) (hQv D E B Z Qn) mc ms (hB B)) (cw : CallB R s args own index y bytes maxL none ws rm mc ms n ∧ y.name = "<init>" ∧ (Cond.instanceMethod y).before args s = true) (hE : hEs D E B Z s) (hh : hPw D E B Z G H) (hS : va_S (hB B) s.heap H locs) (hst : st = As.reverse ++ .ref b :: rest) (hn : As.length = n) (hsz : ls.size = nL) (hr : (rest.map fun v => v.category).sum ≤ 8) (hdg : decode cc pc = .ok (.invokespecial index, 3)) (hf : cells + mc ≤ R.cells ∧ slots + ms ≤ R.slots)
    (kk : ∀ (G' : hG) (H1 : Heap) (locs1 : List Loc), Qn G' → hPw D E B Z G' H1 → va_S (hB B) s.heap H1 locs1 → W p l e R s m args below meth c H1 locs1 (cells + mc) (slots + ms) Q (F0 m (pc + 3) ls rest)) : W p l e R s m args below meth c H locs cells slots Q (F0 m pc ls st) :=
  va_callv (va_runI S hM cw ⟨hPre.blind, hPre.at hE hh hS⟩ rfl hn hsz hst (lv_room hr) hdg hf) hS (fun q _ h => h) (fun q h => h) (fun u t H1 locs1 ht hvm hw hB hz hk hS1 => kk u H1 locs1 hw (by rw [← ht]; exact hB) hS1)
end HROW3
/-- what a method's walk has all along -/
def hAmb (p : Program) (s : State) (m : MethodId) (args : Array Value) (meth : Method) (c : Code) (own : String) (cc : ByteArray) (nL : Nat) (ret : Option FieldType) (D : va_G) (E : Nat → ClassId) (B : Nat) (Z : hG) : Prop := p.tables.exec = Jvm.exec ∧ c.code = cc ∧ meth.sig.returnType = ret ∧ meth.locks = false ∧ c.maxLocals = nL ∧ s.vm.findClass own = some m.cls ∧ (∀ w ∈ lw_all, w.before args s = true) ∧ hEs D E B Z s
theorem h_entry {ret : Option FieldType} {p : Program} {l : Launch} {e : Env} {s s₁ : State} {m : MethodId} {args : Array Value} {below : List Frame} {meth : Method} {c : Code} {own nm ds : String} {cc : ByteArray} {nL : Nat} {D : va_G} {E : Nat → ClassId} {B : Nat} {Z G : hG} {av : List Value} {rm : Room} (Bd : BodyLoose p l ⟨own, nm, ds⟩ (headSpec (ws_ ⟨own, nm, ds⟩ cc nL ret) rm) cc nL ret e s m args below meth c s₁) (hml : c.maxLocals = nL) (hv : hPre D E B Z G av args s) : hAmb p s m args meth c own cc nL ret D E B Z ∧ hPw D E B Z G s.heap ∧ args = av.toArray := by
  obtain ⟨h0, h1, h2⟩ := hv
  have hts := atoms_spec (ws := ws_ ⟨own, nm, ds⟩ cc nL ret) Bd.pre
  exact ⟨⟨Bd.exec, Bd.bytes, Bd.returns, Bd.notSynchronized, hml, findClass_of_methodNamed Bd.named, fun w h => hts w (List.mem_cons_of_mem _ h), h1⟩, h2, h0⟩
theorem hPw.to {D : va_G} {E : Nat → ClassId} {B : Nat} {Z G : hG} {H : Heap} {t : State} (h : hPw D E B Z G H) (e : t.heap = H) : hPw D E B Z G t.heap := by rw [e]; exact h
section HROW4
variable {p : Program} {l : Launch} {e : Env} {R : Room} {s : State} {m : MethodId} {args : Array Value} {below : List Frame} {meth : Method} {c : Code} {H : Heap} {locs : List Loc} {cells slots : Nat} {Q : State → Prop}
variable {cc : ByteArray} {pc : Nat} {ls : Array Slot} {rest : List Value} {D : va_G} {E : Nat → ClassId} {B : Nat} {Z G : hG} {a : Nat}
/-! references in arrays -/
theorem hr_aald (t : Nat) {C : String} (hx : p.tables.exec = Jvm.exec) (hb : c.code = cc) (hE : hEs D E B Z s) (hh : hPw D E B Z G H) (hS : va_S (hB B) s.heap H locs) (hk : hAk t = 2) (ht : (hTys E)[t]? = some (E t, .object C)) (ht2 : hTl[t]? = some (.object C)) (hc : hcl G a (100 + t)) {i : Int32} (hi : vp_in i (hN G a)) {x : Option Nat} (hv : hR G a i.toNatClampNeg = x) (hdg : decode cc pc = .ok (.aaload, 1))
    (kk : W p l e R s m args below meth c H locs cells slots Q (F0 m (pc + 1) ls (va_rf x :: rest))) : W p l e R s m args below meth c H locs cells slots Q (F0 m pc ls (.int i :: .ref a :: rest)) := by
  subst hv
  rcases hc with hc | hc
  · have h1 := hh.atA (t := t) hc
    rw [hk] at h1
    exact va_aldq (C := C) (f := hR G a) hx hb hE.1 (h_one h1) 0 t rfl ht hi hdg kk
  · obtain ⟨ty, h1, h2⟩ := hh.atC (t := t) hE hc
    cases ht2.symm.trans h1
    rw [hk] at h2
    exact vb_tq (C := C) hx hb h2 hS hi rfl hdg kk
/-- constant arrays of Integers alone -/
theorem hr_aaldK {C : String} (t : Nat) (hx : p.tables.exec = Jvm.exec) (hb : c.code = cc) (hE : hEs D E B Z s) (hh : hPw D E B Z G H) (hS : va_S (hB B) s.heap H locs) (hk : hAk t = 2) (ht2 : hTl[t]? = some (.object C)) (hc : hC G a = some (100 + t, false)) {i : Int32} (hi : vp_in i (hN G a)) {x : Option Nat} (hv : hR G a i.toNatClampNeg = x) (hdg : decode cc pc = .ok (.aaload, 1))
    (kk : W p l e R s m args below meth c H locs cells slots Q (F0 m (pc + 1) ls (va_rf x :: rest))) : W p l e R s m args below meth c H locs cells slots Q (F0 m pc ls (.int i :: .ref a :: rest)) := by
  subst hv
  obtain ⟨ty, h1, h2⟩ := hh.atC (t := t) hE hc
  cases ht2.symm.trans h1
  rw [hk] at h2
  exact vb_tq (C := C) hx hb h2 hS hi rfl hdg kk
/-- an object of ours, of a class whose number is less than n -/
def hOb (G : hG) (n : Nat) (y : Nat) : Prop := ∃ ci, ci < n ∧ hcl G y ci
theorem hr_any {ci : Nat} {q : vw_C} {F : String} (hE : hEs D E B Z s) (hh : hPw D E B Z G H) (hS : va_S (hB B) s.heap H locs) (hc : hcl G a ci) (hci : ci < 100) (hq : hCl[ci]? = some q) (hca : Cond.castable q.1 F ∈ lw_tbl) : va_Any F s H a :=
  va_rAny (q0 := 0) hE.1 (h_one (hh.atO hE hS hc hci)) rfl hq (vb_asgC (hE.2.2.1.2.2.1 _ _ hca))
theorem hr_anyO {y : Nat} (hE : hEs D E B Z s) (hh : hPw D E B Z G H) (hS : va_S (hB B) s.heap H locs) (hy : hOb G hNob y) : va_Any "java/lang/Object" s H y := by
  obtain ⟨ci, h1, h2⟩ := hy
  obtain ⟨q, h3, h4, h5⟩ := hCl_ob ci h1
  exact hr_any hE hh hS h2 h3 h4 h5
/-- what an array of Objects (t = 3) or of Letters (t = 4) takes -/
def hTk (G : hG) (t : Nat) (x : Option Nat) : Prop := ∀ y, x = some y → if t = 3 then hOb G hNob y else hcl G y 4
theorem hr_aast (t : Nat) {C : String} (hx : p.tables.exec = Jvm.exec) (hb : c.code = cc) (hE : hEs D E B Z s) (hh : hPw D E B Z G H) (hS : va_S (hB B) s.heap H locs) (hk : hAk t = 2) (ht : (hTys E)[t]? = some (E t, .object C)) (hCt : (t = 3 ∧ C = "java/lang/Object") ∨ (t ≠ 3 ∧ C = "StuckKeys$Letters")) (hc : hC G a = some (100 + t, true)) {i : Int32} (hi : vp_in i (hN G a)) {x : Option Nat} (htk : hTk G t x) (hdg : decode cc pc = .ok (.aastore, 1))
    (kk : ∀ (H1 : Heap) (locs1 : List Loc), hPw D E B Z (hsR G a i.toNatClampNeg x) H1 → va_S (hB B) s.heap H1 locs1 → W p l e R s m args below meth c H1 locs1 cells slots Q (F0 m (pc + 1) ls rest)) : W p l e R s m args below meth c H locs cells slots Q (F0 m pc ls (va_rf x :: .int i :: .ref a :: rest)) := by
  obtain ⟨q0, hq0⟩ := hWs_at (E := E) hc (hh.lt hc)
  have he : hEnt E G a (100 + t) = .inl (E t, (hN G a, .inr (.inr (.inr (.inr (hR G a)))))) := by
    unfold hEnt
    rw [if_neg (by omega), Nat.add_sub_cancel_left, hk]
    rfl
  have hend : ∀ (H1 : Heap) (locs1 : List Loc), va_P D hCl ((hWs E G H.size).set q0 (a, .inl (E t, (hN G a, .inr (.inr (.inr (.inr (va_up (hR G a) i.toNatClampNeg x)))))))) H1 → va_S (hB B) s.heap H1 locs1 → hPw D E B Z (hsR G a i.toNatClampNeg x) H1 := by
    intro H1 locs1 hP1 hS1
    refine h_arrend (t := t) (G' := hsR G a i.toNatClampNeg x) hE hh hc ?_ rfl rfl (fun b hb => hSm_sR hb) hq0 hP1 hS1
    rw [hk]
    show (hN G a, Sum.inr (Sum.inr (Sum.inr (Sum.inr (hR (hsR G a i.toNatClampNeg x) a))))) = _
    congr 6
    funext j
    rw [hR_sR]
    unfold va_up
    simp
  cases x with
  | none => exact va_astqN (C := C) hx hb hE.1 hh.P hh.Dw hS q0 t (by rw [hq0, he]) ht hi hdg fun H1 locs1 hP1 hD1 hS1 => kk H1 locs1 (hend H1 locs1 hP1 hS1) hS1
  | some y =>
    have hy := htk y rfl
    have hany : va_Any C s H y := by
      rcases hCt with ⟨h1, h2⟩ | ⟨h1, h2⟩
      · rw [if_pos h1] at hy
        rw [h2]
        exact hr_anyO hE hh hS hy
      · rw [if_neg h1] at hy
        rw [h2]
        exact va_rAny (q0 := 0) (r := (RX5, TX5, 2)) hE.1 (h_one (hh.atO hE hS hy (by decide))) rfl rfl (fun comp c0 g1 g2 => vb_asgS comp c0 g1 g2)
    exact va_astqM hx hb hE.1 hh.P hh.Dw hS q0 t (by rw [hq0, he]) ht hany hi hdg fun H1 locs1 hP1 hD1 hS1 => kk H1 locs1 (hend H1 locs1 hP1 hS1) hS1
theorem hr_newq (t : Nat) {own C : String} {index : Nat} (hx : p.tables.exec = Jvm.exec) (hb : c.code = cc) (hown : s.vm.findClass own = some m.cls) (hclink : (Cond.classLink own index C).before args s = true) (hover : Cond.arrayOver (.object C) ∈ lw_tbl) (hE : hEs D E B Z s) (hh : hPw D E B Z G H) (hS : va_S (hB B) s.heap H locs) (hk : hAk t = 2) (ht : (hTys E)[t]? = some (E t, .object C)) {n : Int32} {N : Nat} (hn : ¬ n < 0) (hN' : n.toNatClampNeg = N) (hbytes : N * 4 ≤ 536870912) (hcells : cells + 1 ≤ R.cells) (hslots : slots + N ≤ R.slots) (hdg : decode cc pc = .ok (.anewarray index, 3))
    (kk : ∀ (q : Nat) (H1 : Heap), hfr G q → hPw D E B Z (hnw G q (100 + t) N) H1 → va_S (hB B) s.heap H1 locs → W p l e R s m args below meth c H1 locs (cells + 1) (slots + N) Q (F0 m (pc + 3) ls (.ref q :: rest))) : W p l e R s m args below meth c H locs cells slots Q (F0 m pc ls (.int n :: rest)) := by
  refine va_newq hx hb hown hclink (hE.2.2.1.2.2.2.2.1 _ hover) hE.1 hh.P hh.Dw hS (fun q h => Nat.le_trans hE.2.2.2.2 h) hn hN' hbytes hcells hslots hdg fun q cA H1 hK1 hP1 hD1 hS1 => ?_
  obtain ⟨-, -, -, -, -, e1⟩ := (hK1.2 (hTys E).length (cA, .object C) (by simp)).2
  obtain ⟨-, -, -, -, -, e2⟩ := (hE.1.2 t _ ht).2
  have e3 : cA = E t := Option.some.inj (e1.symm.trans e2)
  subst e3
  obtain ⟨h1, h2⟩ := hh.push (q := q) (ci := 100 + t) (n := N) hP1 hD1 (Nat.le_trans hE.2.2.2.2 hS1.1) (by
    unfold hEnt
    rw [if_neg (by omega), Nat.add_sub_cancel_left, hk]
    show Sum.inl (E t, (hN (hnw G q (100 + t) N) q, Sum.inr (Sum.inr (Sum.inr (Sum.inr (hR (hnw G q (100 + t) N) q)))))) = _
    rw [hN_nw, if_pos rfl]
    congr 7
    funext j
    rw [hR_nw, if_pos rfl])
  exact kk q H1 h1 h2 hS1
/-! System.arraycopy -/
def hcpR (G : hG) (a dp : Nat) (f : Nat → Option Nat) (sp n : Nat) : hG := (hC G, hN G, hI G, hJ G, fun b j => if b = a then va_cpy f (hR G a) sp dp n j else hR G b j, hK G)
def hcpI (G : hG) (a dp : Nat) (f : Nat → Int32) (sp n : Nat) : hG := (hC G, hN G, fun b j => if b = a then va_cpy f (hI G a) sp dp n j else hI G b j, hJ G, hR G, hK G)
theorem hSm_cpR {a dp sp n b : Nat} {f : Nat → Option Nat} (h : b ≠ a) : hSm G (hcpR G a dp f sp n) b := ⟨rfl, rfl, rfl, funext fun j => by show (if b = a then _ else _) = _; rw [if_neg h]⟩
theorem hSm_cpI {a dp sp n b : Nat} {f : Nat → Int32} (h : b ≠ a) : hSm G (hcpI G a dp f sp n) b := ⟨rfl, funext fun j => by show (if b = a then _ else _) = _; rw [if_neg h], rfl, rfl⟩
theorem hr_copyR {own : String} {index a0 : Nat} (hx : p.tables.exec = Jvm.exec) (hb : c.code = cc) (hml : c.maxLocals = ls.size) (hown : s.vm.findClass own = some m.cls) (hlink : (Cond.methodLink own index arraycopyName).before args s = true) (hnat : (Cond.native arraycopyName).before args s = true) (hstat : (Cond.static arraycopyName).before args s = true) (hini : (Cond.initialized "java/lang/System").before args s = true)
    (hE : hEs D E B Z s) (hh : hPw D E B Z G H) (hS : va_S (hB B) s.heap H locs) (hc0 : hC G a0 = some (103, true)) (hc : hC G a = some (103, true)) {sp dp n : Int32} (h1 : ¬ sp < 0) (h2 : ¬ dp < 0) (h3 : ¬ n < 0) (h4 : sp.toNatClampNeg + n.toNatClampNeg ≤ hN G a0) (h5 : dp.toNatClampNeg + n.toNatClampNeg ≤ hN G a) (hel : ∀ i : Nat, i < n.toNatClampNeg → ∀ y : Nat, hR G a0 (sp.toNatClampNeg + i) = some y → hOb G hNob y)
    (hframes : 1 ≤ R.frames) (hlocals : (rest.map fun v => v.category).sum + (nativeFrameWords "java/lang/System" "arraycopy" 5 + 11) ≤ R.locals) (hdg : decode cc pc = .ok (.invokestatic index, 3))
    (kk : ∀ (H1 : Heap) (locs1 : List Loc), hPw D E B Z (hcpR G a dp.toNatClampNeg (hR G a0) sp.toNatClampNeg n.toNatClampNeg) H1 → va_S (hB B) s.heap H1 locs1 → W p l e R s m args below meth c H1 locs1 cells slots Q (F0 m (pc + 3) ls rest)) : W p l e R s m args below meth c H locs cells slots Q (F0 m pc ls (.int n :: .int dp :: .ref a :: .int sp :: .ref a0 :: rest)) := by
  obtain ⟨q0, hq0⟩ := hWs_at (E := E) hc0 (hh.lt hc0)
  obtain ⟨q1, hq1⟩ := hWs_at (E := E) hc (hh.lt hc)
  refine va_copyM (f := hR G a0) (g := hR G a) (n0 := hN G a0) (n1 := hN G a) (c0 := E 3) (c1 := E 3) (E0 := "java/lang/Object") (E1 := "java/lang/Object") hx hb hml hown hlink hnat hstat hini hE.1 hh.P hh.Dw hS q0 q1 3 3 hq0 hq1 rfl rfl h1 h2 h3 h4 h5 (fun i hi y hy => hr_anyO hE hh hS (hel i hi y hy)) hframes hlocals hdg fun H1 locs1 hP1 hD1 hS1 => kk H1 locs1 ?_ hS1
  refine h_arrend (t := 3) (G' := hcpR G a dp.toNatClampNeg (hR G a0) sp.toNatClampNeg n.toNatClampNeg) hE hh hc ?_ rfl rfl (fun b hb => hSm_cpR hb) hq1 hP1 hS1
  show (hN G a, Sum.inr (Sum.inr (Sum.inr (Sum.inr (fun j => if a = a then _ else _))))) = _
  congr 6
  funext j
  rw [if_pos rfl]
theorem hr_copyI {own : String} {index a0 : Nat} (hx : p.tables.exec = Jvm.exec) (hb : c.code = cc) (hml : c.maxLocals = ls.size) (hown : s.vm.findClass own = some m.cls) (hlink : (Cond.methodLink own index arraycopyName).before args s = true) (hnat : (Cond.native arraycopyName).before args s = true) (hstat : (Cond.static arraycopyName).before args s = true) (hini : (Cond.initialized "java/lang/System").before args s = true)
    (hE : hEs D E B Z s) (hh : hPw D E B Z G H) (hS : va_S (hB B) s.heap H locs) (hc0 : hC G a0 = some (102, true)) (hc : hC G a = some (102, true)) {sp dp n : Int32} (h1 : ¬ sp < 0) (h2 : ¬ dp < 0) (h3 : ¬ n < 0) (h4 : sp.toNatClampNeg + n.toNatClampNeg ≤ hN G a0) (h5 : dp.toNatClampNeg + n.toNatClampNeg ≤ hN G a) (hel : ∀ i : Nat, i < n.toNatClampNeg → fits .byte (.int (hI G a0 (sp.toNatClampNeg + i))) = true)
    (hframes : 1 ≤ R.frames) (hlocals : (rest.map fun v => v.category).sum + (nativeFrameWords "java/lang/System" "arraycopy" 5 + 11) ≤ R.locals) (hdg : decode cc pc = .ok (.invokestatic index, 3))
    (kk : ∀ (H1 : Heap) (locs1 : List Loc), hPw D E B Z (hcpI G a dp.toNatClampNeg (hI G a0) sp.toNatClampNeg n.toNatClampNeg) H1 → va_S (hB B) s.heap H1 locs1 → W p l e R s m args below meth c H1 locs1 cells slots Q (F0 m (pc + 3) ls rest)) : W p l e R s m args below meth c H locs cells slots Q (F0 m pc ls (.int n :: .int dp :: .ref a :: .int sp :: .ref a0 :: rest)) := by
  obtain ⟨q0, hq0⟩ := hWs_at (E := E) hc0 (hh.lt hc0)
  obtain ⟨q1, hq1⟩ := hWs_at (E := E) hc (hh.lt hc)
  refine va_copyi (ty := .byte) (f := hI G a0) (g := hI G a) (n0 := hN G a0) (n1 := hN G a) (c0 := E 2) (c1 := E 2) hx hb hml hown hlink hnat hstat hini hE.1 hh.P hh.Dw hS q0 q1 2 2 hq0 hq1 rfl rfl rfl h1 h2 h3 h4 h5 hel hframes hlocals hdg fun H1 locs1 hP1 hD1 hS1 => kk H1 locs1 ?_ hS1
  refine h_arrend (t := 2) (G' := hcpI G a dp.toNatClampNeg (hI G a0) sp.toNatClampNeg n.toNatClampNeg) hE hh hc ?_ rfl rfl (fun b hb => hSm_cpI hb) hq1 hP1 hS1
  show (hN G a, Sum.inl (fun j => if a = a then _ else _)) = _
  congr 2
  funext j
  rw [if_pos rfl]
/-! statics, constants -/
theorem hr_gets (hx : p.tables.exec = Jvm.exec) (hb : c.code = cc) {C n d own : String} {index i : Nat} (hE : hEs D E B Z s) (hh : hPw D E B Z G H) (hS : va_S (hB B) s.heap H locs) (hi : hSrs[i]? = some (C, n, d)) (hown : s.vm.findClass own = some m.cls) (hlink : (Cond.fieldLink own index C n d).before args s = true) (hdg : decode cc pc = .ok (.getstatic index, 3))
    (kk : W p l e R s m args below meth c H locs cells slots Q (F0 m (pc + 3) ls (.ref (hK G i) :: rest))) : W p l e R s m args below meth c H locs cells slots Q (F0 m pc ls rest) := by
  rw [hh.2.1.2] at kk
  exact va_gets hx hb (hE.2.2.2.1.1 i C n d hi) hS hown hlink (fun _ h => h) hdg kk
theorem hr_getsI (hx : p.tables.exec = Jvm.exec) (hb : c.code = cc) {C n d own : String} {index : Nat} {v : Int32} (hE : hEs D E B Z s) (hS : va_S (hB B) s.heap H locs) (hi : (C, n, d, v) ∈ hSis) (hown : s.vm.findClass own = some m.cls) (hlink : (Cond.fieldLink own index C n d).before args s = true) (hdg : decode cc pc = .ok (.getstatic index, 3))
    (kk : W p l e R s m args below meth c H locs cells slots Q (F0 m (pc + 3) ls (.int v :: rest))) : W p l e R s m args below meth c H locs cells slots Q (F0 m pc ls rest) :=
  va_gets hx hb (hE.2.2.2.1.2.1 _ hi) hS hown hlink (fun _ h => h) hdg kk
theorem hr_getsQ (hx : p.tables.exec = Jvm.exec) (hb : c.code = cc) {C n d own : String} {index : Nat} (hE : hEs D E B Z s) (hS : va_S (hB B) s.heap H locs) (hi : (C, n, d) ∈ hSqs) (hown : s.vm.findClass own = some m.cls) (hlink : (Cond.fieldLink own index C n d).before args s = true) (hdg : decode cc pc = .ok (.getstatic index, 3))
    (kk : ∀ x : Option Nat, W p l e R s m args below meth c H locs cells slots Q (F0 m (pc + 3) ls (va_rf x :: rest))) : W p l e R s m args below meth c H locs cells slots Q (F0 m pc ls rest) := by
  rcases (hE.2.2.2.1.2.2.1 _ hi).1 with h | ⟨t, h⟩
  · exact va_gets hx hb h hS hown hlink (fun _ h => h) hdg (kk none)
  · exact va_gets hx hb h hS hown hlink (fun _ h => h) hdg (kk (some t))
theorem hr_ldcS (hx : p.tables.exec = Jvm.exec) (hb : c.code = cc) {own tx : String} {index i : Nat} (hown : s.vm.findClass own = some m.cls) (hE : hEs D E B Z s) (hh : hPw D E B Z G H) (hi : (own, index, tx, i) ∈ hSks) (hdg : decode cc pc = .ok (.ldc index, 2))
    (kk : W p l e R s m args below meth c H locs cells slots Q (F0 m (pc + 2) ls (.ref (hK G i) :: rest))) : W p l e R s m args below meth c H locs cells slots Q (F0 m pc ls rest) := by
  rw [hh.2.1.2] at kk
  exact va_ldcS hx hb hown (hE.2.2.2.1.2.2.2.1 _ hi) hdg kk
theorem hr_ldcM (hx : p.tables.exec = Jvm.exec) (hb : c.code = cc) {own : String} {index : Nat} (hown : s.vm.findClass own = some m.cls) (hlink : (Cond.classLink own index "[Ljava/lang/Object;").before args s = true) (hE : hEs D E B Z s) (hh : hPw D E B Z G H) (hdg : decode cc pc = .ok (.ldc index, 2))
    (kk : W p l e R s m args below meth c H locs cells slots Q (F0 m (pc + 2) ls (.ref (hK G 50) :: rest))) : W p l e R s m args below meth c H locs cells slots Q (F0 m pc ls rest) := by
  rw [hh.2.1.2] at kk
  exact va_ldcM hx hb hown hlink hE.2.2.2.1.2.2.2.2.1 hdg kk
/-- the class object of an array of Objects -/
theorem hr_getC (hx : p.tables.exec = Jvm.exec) (hb : c.code = cc) (hml : c.maxLocals = ls.size) {own : String} {index : Nat} (hown : s.vm.findClass own = some m.cls) (hlink : (Cond.methodLink own index ⟨"java/lang/Object", "getClass", "()Ljava/lang/Class;"⟩).before args s = true) (hsel : (Cond.selects "[Ljava/lang/Object;" ⟨"java/lang/Object", "getClass", "()Ljava/lang/Class;"⟩ ⟨"java/lang/Object", "getClass", "()Ljava/lang/Class;"⟩).before args s = true) (hinst : (Cond.instanceMethod ⟨"java/lang/Object", "getClass", "()Ljava/lang/Class;"⟩).before args s = true) (hnat : (Cond.native ⟨"java/lang/Object", "getClass", "()Ljava/lang/Class;"⟩).before args s = true)
    (hE : hEs D E B Z s) (hh : hPw D E B Z G H) (hS : va_S (hB B) s.heap H locs) (hc : hC G a = some (103, true) ∨ a = hK G 1) (hframes : 1 ≤ R.frames) (hlocals : (rest.map fun v => v.category).sum + 14 ≤ R.locals) (hdg : decode cc pc = .ok (.invokevirtual index, 3))
    (kk : W p l e R s m args below meth c H locs cells slots Q (F0 m (pc + 3) ls (.ref (hK G 50) :: rest))) : W p l e R s m args below meth c H locs cells slots Q (F0 m pc ls (.ref a :: rest)) := by
  have hr : ∃ cell : Cell, H[a]? = some cell ∧ cell.vm.isStatics = false ∧ s.vm.findClass "[Ljava/lang/Object;" = some cell.cls := by
    rcases hc with hc | hc
    · have h1 := hh.atA (t := 3) hc
      exact ⟨_, h1, rfl, va_nmO (hE.1.2 3 _ rfl).2 rfl⟩
    · rw [hh.2.1.2] at hc
      subst hc
      obtain ⟨cell, g1, g2, g3, g4⟩ := hE.2.2.2.1.2.2.2.2.2
      exact ⟨cell, by rw [hS.2.1 _ (Array.getElem?_eq_some_iff.mp g1).1 g4]; exact g1, g2, g3⟩
  rw [hh.2.1.2] at kk
  exact va_getC hx hb hml hown hlink (va_Nw.use rfl (hE.2.2.1.2.2.2.1 _ hDgc)) hsel hinst hnat hE.2.2.2.1.2.2.2.2.1 hr hframes hlocals hdg kk
/-! casts -/
theorem hr_castO (hx : p.tables.exec = Jvm.exec) (hb : c.code = cc) {own nm : String} {index ci : Nat} {q : vw_C} {x : Option Nat} (hown : s.vm.findClass own = some m.cls) (hlink : (Cond.classLink own index nm).before args s = true) (hE : hEs D E B Z s) (hh : hPw D E B Z G H) (hS : va_S (hB B) s.heap H locs) (hc : ∀ y, x = some y → hcl G y ci) (hci : ci < 100) (hq : hCl[ci]? = some q) (hca : q.1 = nm ∨ Cond.castable q.1 nm ∈ lw_tbl) (hdg : decode cc pc = .ok (.checkcast index, 3))
    (kk : W p l e R s m args below meth c H locs cells slots Q (F0 m (pc + 3) ls (va_rf x :: rest))) : W p l e R s m args below meth c H locs cells slots Q (F0 m pc ls (va_rf x :: rest)) := by
  cases x with
  | none => exact lv_castN hx hb hdg kk
  | some y =>
    have hr := hr_recv hE hh hS (hc y rfl) hci hq
    rcases hca with h | h
    · subst h
      exact va_castE hx hb hown hlink hr hdg kk
    · exact va_castY hx hb hown hlink (hE.2.2.1.2.2.1 _ _ h) hr hdg kk
theorem hr_castA (hx : p.tables.exec = Jvm.exec) (hb : c.code = cc) {own : String} {index : Nat} (hown : s.vm.findClass own = some m.cls) (hlink : (Cond.classLink own index "[Ljava/lang/Object;").before args s = true) (hE : hEs D E B Z s) (hh : hPw D E B Z G H) (hc : hC G a = some (103, true)) (hdg : decode cc pc = .ok (.checkcast index, 3))
    (kk : W p l e R s m args below meth c H locs cells slots Q (F0 m (pc + 3) ls (.ref a :: rest))) : W p l e R s m args below meth c H locs cells slots Q (F0 m pc ls (.ref a :: rest)) :=
  va_castA hx hb hown hlink (h_one (hh.atA (t := 3) hc)) 0 rfl (va_nmO (hE.1.2 3 _ rfl).2 rfl) hdg kk
theorem hr_instO (hx : p.tables.exec = Jvm.exec) (hb : c.code = cc) {own nm : String} {index ci : Nat} {q : vw_C} (hown : s.vm.findClass own = some m.cls) (hlink : (Cond.classLink own index nm).before args s = true) (hE : hEs D E B Z s) (hh : hPw D E B Z G H) (hS : va_S (hB B) s.heap H locs) (hc : hcl G a ci) (hci : ci < 100) (hq : hCl[ci]? = some q) (hca : q.1 = nm ∨ Cond.castable q.1 nm ∈ lw_tbl) (hdg : decode cc pc = .ok (.instanceof index, 3))
    (kk : W p l e R s m args below meth c H locs cells slots Q (F0 m (pc + 3) ls (.int 1 :: rest))) : W p l e R s m args below meth c H locs cells slots Q (F0 m pc ls (.ref a :: rest)) := by
  have hr := hr_recv hE hh hS hc hci hq
  rcases hca with h | h
  · subst h
    exact va_instE hx hb hown hlink hr hdg kk
  · exact va_instY hx hb hown hlink (hE.2.2.1.2.2.1 _ _ h) hr hdg kk
theorem hr_aret {Qc : Array Value → State → Outcome → State → Prop} {free : Addr → Prop} {rt : FieldType} {x : Option Nat} (hx : p.tables.exec = Jvm.exec) (hb : c.code = cc) (hr : meth.sig.returnType = some rt) (hlocks : meth.locks = false) (hrt : (∃ n, rt = .object n) ∨ ∃ t, rt = .array t) (hq : ∀ t : State, t.heap = H → s.WarmedH t.vm → Qc args s (.returned (some (va_rf x))) t) (hf : ∀ q ∈ locs, free q.base) (hdg : decode cc pc = .ok (.areturn, 1)) : W p l e R s m args below meth c H locs cells slots (MQ below Qc args s cells slots free) (F0 m pc ls [va_rf x]) :=
  W.aret hx hb hr hrt (by cases x with | none => exact Or.inl rfl | some y => exact Or.inr ⟨y, rfl⟩) hq hf hdg
/-! fields of a nest mate, written -/
theorem hr_putIN (hx : p.tables.exec = Jvm.exec) (hb : c.code = cc) {own ref C host : String} {T : u_T} {N index ci : Nat} (hts : ∀ w ∈ lw_all, w.before args s = true) (hin : ∀ w ∈ u_ws C T N, w ∈ lw_all) (ty0 : Nat → FieldType) (hty : ∀ k, k < N → parseFieldDescriptor (T k).2.2.1 = some (ty0 k)) (hnm : ∀ a, a < N → ∀ b, b < N → a ≠ b → (T a).2.1 ≠ (T b).2.1) (hown : s.vm.findClass own = some m.cls) (hE : hEs D E B Z s) (hh : hPw D E B Z G H) (hS : va_S (hB B) s.heap H locs) (hc : hC G a = some (ci, true)) (hci : ci < 100) (hq : hCl[ci]? = some (C, T, N)) (k : Nat) (hk : k < N) (hkd : (hKd ci)[k]? = some 0) (hlink : Cond.fieldLinkNest own index ref (T k).2.1 (T k).2.2.1 host ∈ lw_tbl) (hsame : ∀ x, s.fieldFound? (T k).1 (T k).2.1 (T k).2.2.1 = some x → s.fieldFound? ref (T k).2.1 (T k).2.2.1 = some x) (hfin : (T k).2.2.2 = false) {ty : FieldType} {x : Int32} (hd : parseFieldDescriptor (T k).2.2.1 = some ty) (hn : narrow ty (.int x) = .int x ∧ fits ty (.int x) = true) (hdg : decode cc pc = .ok (.putfield index, 3))
    (kk : ∀ (H1 : Heap) (locs1 : List Loc), hPw D E B Z (hsI G a k x) H1 → va_S (hB B) s.heap H1 locs1 → W p l e R s m args below meth c H1 locs1 cells slots Q (F0 m (pc + 3) ls rest)) : W p l e R s m args below meth c H locs cells slots Q (F0 m pc ls (.int x :: .ref a :: rest)) := by
  obtain ⟨q0, hq0⟩ := hWs_at (E := E) hc (hh.lt hc)
  have he : hEnt E G a ci = .inr (ci, hFs G a (hKd ci) 0) := by unfold hEnt; rw [if_pos hci]
  have hfs := hFs_sI (G := G) (a := a) (x := x) (hKd ci) 0 k hkd
  rw [Nat.zero_add] at hfs
  refine va_putN hx hb hts hin ty0 hty hnm hown hE.1 hh.P hh.Dw hS q0 (by rw [hq0, he]) hq k hk (va_Nw.use rfl (hE.2.2.1.1 _ _ _ _ _ _ hlink)) hsame hfin hd hn.1 hn.2 (by rw [hFs_len]; exact (List.getElem?_eq_some_iff.mp hkd).1) hdg fun H1 locs1 hP1 hD1 hS1 => kk H1 locs1 ?_ hS1
  exact h_putend hE hh hc hci (kd := 0) hfs rfl rfl (fun b hb => hSm_sI hb) hq0 hP1 hS1
/-! calls through an interface, and of inherited methods: one row each -/
abbrev hRun5 (p : Program) (l : Launch) (e : Env) (R : Room) (s : State) (m : MethodId) (args : Array Value) (below : List Frame) (meth : Method) (c : Code) (H : Heap) (locs : List Loc) (cells slots mc ms : Nat) (g : JFrame) (rest : List Value) (Qa : State → Outcome → State → Prop) (free : Addr → Prop) : Prop := va_Run5 p l e R s m args below meth c H locs cells slots mc ms g rest Qa free
theorem hr_at5 {C : String} {T : u_T} {N ci : Nat} (hE : hEs D E B Z s) (hq : hCl[ci]? = some (C, T, N)) : ClassAt s C (D.1 ci) := (hE.1.1 ci _ hq).2
theorem hr_cFi {x y : MethodName} {bytes : ByteArray} {maxL nL mc ms n index count ci : Nat} {ret : Option FieldType} {ws : List Cond} {rm : Room} {own C : String} {T : u_T} {N b : Nat} {As st : List Value} {Qn : hG → Int32 → Prop} (S : CallFix p m c cc nL s args lw_all own) (hM : Met l y ws rm (hPre D E B Z G (.ref b :: As)) (hQi D E B Z Qn) mc ms (hB B)) (cw : va_CI R s args own C index x y bytes maxL ret ws rm mc ms n) (hE : hEs D E B Z s) (hh : hPw D E B Z G H) (hS : va_S (hB B) s.heap H locs) (hc : hcl G b ci) (hci : ci < 100) (hq : hCl[ci]? = some (C, T, N)) (hst : st = As.reverse ++ .ref b :: rest) (hn : As.length = n) (hsz : ls.size = nL) (hr : (rest.map fun v => v.category).sum ≤ 8) (hdg : decode cc pc = .ok (.invokeinterface index count, 5)) (hf : cells + mc ≤ R.cells ∧ slots + ms ≤ R.slots)
    (kk : ∀ (G' : hG) (r : Int32) (H1 : Heap) (locs1 : List Loc), Qn G' r → hPw D E B Z G' H1 → va_S (hB B) s.heap H1 locs1 → W p l e R s m args below meth c H1 locs1 (cells + mc) (slots + ms) Q (F0 m (pc + 5) ls (.int r :: rest))) : W p l e R s m args below meth c H locs cells slots Q (F0 m pc ls st) :=
  va_callFi (va_runF (hr_at5 hE hq) S hM cw ⟨hPre.blind, hr_recv hE hh hS hc hci hq, hPre.at hE hh hS⟩ rfl hn hsz hst (lv_room hr) hdg hf) hS (fun q _ h => h) (fun q h => h) (fun r u t H1 locs1 ht hvm hw hB hz hk hS1 => kk u r H1 locs1 hw (by rw [← ht]; exact hB) hS1)
theorem hr_cFq {x y : MethodName} {bytes : ByteArray} {maxL nL mc ms n index count ci : Nat} {ret : Option FieldType} {ws : List Cond} {rm : Room} {own C : String} {T : u_T} {N b : Nat} {As st : List Value} {Qn : hG → Option Nat → Prop} (S : CallFix p m c cc nL s args lw_all own) (hM : Met l y ws rm (hPre D E B Z G (.ref b :: As)) (hQq D E B Z Qn) mc ms (hB B)) (cw : va_CI R s args own C index x y bytes maxL ret ws rm mc ms n) (hE : hEs D E B Z s) (hh : hPw D E B Z G H) (hS : va_S (hB B) s.heap H locs) (hc : hcl G b ci) (hci : ci < 100) (hq : hCl[ci]? = some (C, T, N)) (hst : st = As.reverse ++ .ref b :: rest) (hn : As.length = n) (hsz : ls.size = nL) (hr : (rest.map fun v => v.category).sum ≤ 8) (hdg : decode cc pc = .ok (.invokeinterface index count, 5)) (hf : cells + mc ≤ R.cells ∧ slots + ms ≤ R.slots)
    (kk : ∀ (G' : hG) (r : Option Nat) (H1 : Heap) (locs1 : List Loc), Qn G' r → hPw D E B Z G' H1 → va_S (hB B) s.heap H1 locs1 → W p l e R s m args below meth c H1 locs1 (cells + mc) (slots + ms) Q (F0 m (pc + 5) ls (va_rf r :: rest))) : W p l e R s m args below meth c H locs cells slots Q (F0 m pc ls st) :=
  va_callFq (va_runF (hr_at5 hE hq) S hM cw ⟨hPre.blind, hr_recv hE hh hS hc hci hq, hPre.at hE hh hS⟩ rfl hn hsz hst (lv_room hr) hdg hf) hS (fun q _ h => h) (fun q h => h) (fun r u t H1 locs1 ht hvm hw hB hz hk hS1 => kk u r H1 locs1 hw (by rw [← ht]; exact hB) hS1)
theorem hr_cUi {x y : MethodName} {bytes : ByteArray} {maxL nL mc ms n index ci : Nat} {ret : Option FieldType} {ws : List Cond} {rm : Room} {own owner C : String} {T : u_T} {N b : Nat} {As st : List Value} {Qn : hG → Int32 → Prop} (S : CallFix p m c cc nL s args lw_all own) (hM : Met l y ws rm (hPre D E B Z G (.ref b :: As)) (hQi D E B Z Qn) mc ms (hB B)) (cw : va_CU R s args own C owner index x y bytes maxL ret ws rm mc ms n) (hE : hEs D E B Z s) (hh : hPw D E B Z G H) (hS : va_S (hB B) s.heap H locs) (hc : hcl G b ci) (hci : ci < 100) (hq : hCl[ci]? = some (C, T, N)) (hst : st = As.reverse ++ .ref b :: rest) (hn : As.length = n) (hsz : ls.size = nL) (hr : (rest.map fun v => v.category).sum ≤ 8) (hdg : decode cc pc = .ok (.invokevirtual index, 3)) (hf : cells + mc ≤ R.cells ∧ slots + ms ≤ R.slots)
    (kk : ∀ (G' : hG) (r : Int32) (H1 : Heap) (locs1 : List Loc), Qn G' r → hPw D E B Z G' H1 → va_S (hB B) s.heap H1 locs1 → W p l e R s m args below meth c H1 locs1 (cells + mc) (slots + ms) Q (F0 m (pc + 3) ls (.int r :: rest))) : W p l e R s m args below meth c H locs cells slots Q (F0 m pc ls st) :=
  va_calli (va_runU S hM cw ⟨hPre.blind, hr_recv hE hh hS hc hci hq, hPre.at hE hh hS⟩ rfl hn hsz hst (lv_room hr) hdg hf) hS (fun q _ h => h) (fun q h => h) (fun r u t H1 locs1 ht hvm hw hB hz hk hS1 => kk u r H1 locs1 hw (by rw [← ht]; exact hB) hS1)
theorem hr_cUv {x y : MethodName} {bytes : ByteArray} {maxL nL mc ms n index ci : Nat} {ret : Option FieldType} {ws : List Cond} {rm : Room} {own owner C : String} {T : u_T} {N b : Nat} {As st : List Value} {Qn : hG → Prop} (S : CallFix p m c cc nL s args lw_all own) (hM : Met l y ws rm (hPre D E B Z G (.ref b :: As)) (hQv D E B Z Qn) mc ms (hB B)) (cw : va_CU R s args own C owner index x y bytes maxL ret ws rm mc ms n) (hE : hEs D E B Z s) (hh : hPw D E B Z G H) (hS : va_S (hB B) s.heap H locs) (hc : hcl G b ci) (hci : ci < 100) (hq : hCl[ci]? = some (C, T, N)) (hst : st = As.reverse ++ .ref b :: rest) (hn : As.length = n) (hsz : ls.size = nL) (hr : (rest.map fun v => v.category).sum ≤ 8) (hdg : decode cc pc = .ok (.invokevirtual index, 3)) (hf : cells + mc ≤ R.cells ∧ slots + ms ≤ R.slots)
    (kk : ∀ (G' : hG) (H1 : Heap) (locs1 : List Loc), Qn G' → hPw D E B Z G' H1 → va_S (hB B) s.heap H1 locs1 → W p l e R s m args below meth c H1 locs1 (cells + mc) (slots + ms) Q (F0 m (pc + 3) ls rest)) : W p l e R s m args below meth c H locs cells slots Q (F0 m pc ls st) :=
  va_callv (va_runU S hM cw ⟨hPre.blind, hr_recv hE hh hS hc hci hq, hPre.at hE hh hS⟩ rfl hn hsz hst (lv_room hr) hdg hf) hS (fun q _ h => h) (fun q h => h) (fun u t H1 locs1 ht hvm hw hB hz hk hS1 => kk u H1 locs1 hw (by rw [← ht]; exact hB) hS1)
theorem hr_cUq {x y : MethodName} {bytes : ByteArray} {maxL nL mc ms n index ci : Nat} {ret : Option FieldType} {ws : List Cond} {rm : Room} {own owner C : String} {T : u_T} {N b : Nat} {As st : List Value} {Qn : hG → Option Nat → Prop} (S : CallFix p m c cc nL s args lw_all own) (hM : Met l y ws rm (hPre D E B Z G (.ref b :: As)) (hQq D E B Z Qn) mc ms (hB B)) (cw : va_CU R s args own C owner index x y bytes maxL ret ws rm mc ms n) (hE : hEs D E B Z s) (hh : hPw D E B Z G H) (hS : va_S (hB B) s.heap H locs) (hc : hcl G b ci) (hci : ci < 100) (hq : hCl[ci]? = some (C, T, N)) (hst : st = As.reverse ++ .ref b :: rest) (hn : As.length = n) (hsz : ls.size = nL) (hr : (rest.map fun v => v.category).sum ≤ 8) (hdg : decode cc pc = .ok (.invokevirtual index, 3)) (hf : cells + mc ≤ R.cells ∧ slots + ms ≤ R.slots)
    (kk : ∀ (G' : hG) (r : Option Nat) (H1 : Heap) (locs1 : List Loc), Qn G' r → hPw D E B Z G' H1 → va_S (hB B) s.heap H1 locs1 → W p l e R s m args below meth c H1 locs1 (cells + mc) (slots + ms) Q (F0 m (pc + 3) ls (va_rf r :: rest))) : W p l e R s m args below meth c H locs cells slots Q (F0 m pc ls st) :=
  va_callq (va_runU S hM cw ⟨hPre.blind, hr_recv hE hh hS hc hci hq, hPre.at hE hh hS⟩ rfl hn hsz hst (lv_room hr) hdg hf) hS (fun q _ h => h) (fun q h => h) (fun r u t H1 locs1 ht hvm hw hB hz hk hS1 => kk u r H1 locs1 hw (by rw [← ht]; exact hB) hS1)
theorem hr_cIN {y : MethodName} {bytes : ByteArray} {maxL nL mc ms n index : Nat} {ws : List Cond} {rm : Room} {own host : String} {b : Nat} {As st : List Value} {Qn : hG → Prop} (S : CallFix p m c cc nL s args lw_all own) (hM : Met l y ws rm (hPre D E B Z G (.ref b :: As)) (hQv D E B Z Qn) mc ms (hB B)) (cw : va_CN R s args own index y host bytes maxL none ws rm mc ms n ∧ y.name = "<init>" ∧ (Cond.instanceMethod y).before args s = true) (hE : hEs D E B Z s) (hh : hPw D E B Z G H) (hS : va_S (hB B) s.heap H locs) (hst : st = As.reverse ++ .ref b :: rest) (hn : As.length = n) (hsz : ls.size = nL) (hr : (rest.map fun v => v.category).sum ≤ 8) (hdg : decode cc pc = .ok (.invokespecial index, 3)) (hf : cells + mc ≤ R.cells ∧ slots + ms ≤ R.slots)
    (kk : ∀ (G' : hG) (H1 : Heap) (locs1 : List Loc), Qn G' → hPw D E B Z G' H1 → va_S (hB B) s.heap H1 locs1 → W p l e R s m args below meth c H1 locs1 (cells + mc) (slots + ms) Q (F0 m (pc + 3) ls rest)) : W p l e R s m args below meth c H locs cells slots Q (F0 m pc ls st) :=
  va_callv (va_runIN S hM cw ⟨hPre.blind, hPre.at hE hh hS⟩ rfl hn hsz hst (lv_room hr) hdg hf) hS (fun q _ h => h) (fun q h => h) (fun u t H1 locs1 ht hvm hw hB hz hk hS1 => kk u H1 locs1 hw (by rw [← ht]; exact hB) hS1)
/-- a call through an interface, of a method that a superinterface declares -/
abbrev hCFU (R : Room) (s : State) (args : Array Value) (own C J : String) (index : Nat) (x y : MethodName) (bytes : ByteArray) (maxL : Nat) (ret : Option FieldType) (ws : List Cond) (rm : Room) (mc ms n : Nat) : Prop :=
  (rm.cells = mc ∧ rm.slots = ms ∧ rm.frames + 1 ≤ R.frames ∧ 8 + (maxL + 11) + rm.locals ≤ R.locals ∧ (∀ w ∈ ws, ∀ (a' : Array Value) (U : State), s.WarmedH U.vm → w.before a' U = true) ∧ Cond.code y bytes maxL ret ∈ ws) ∧
  (Cond.methodLink own index x).before args s = true ∧ hFu C J x y s ∧ (Cond.selects C x y).before args s = true ∧ (Cond.instanceMethod y).before args s = true ∧ (Cond.initialized y.cls).before args s = true ∧ (x.cls ≠ J) ∧ (x.cls ≠ "java/lang/invoke/MethodHandle" ∧ x.cls ≠ "java/lang/invoke/VarHandle") ∧ (∀ sig, parseMethodDescriptor x.desc = some sig → n = sig.parameters.length)
theorem h_selUp {C J : String} {x y : MethodName} (hF : hFu C J x y s) (hJ : J ≠ "java/lang/invoke/MethodHandle" ∧ J ≠ "java/lang/invoke/VarHandle") (h : (Cond.selects C ⟨J, x.name, x.desc⟩ y).before args s = true) : (Cond.selects C x y).before args s = true := by
  obtain ⟨c9, k9, m9, h1, h2, h3, h4, h5⟩ := Cond.interfaceMethod_spec hF.1
  have e9 : s.methodFound? x.cls x.name x.desc = s.methodFound? J x.name x.desc := by
    rw [h4]
    exact (State.methodFound?_of_named h5 hJ).symm
  simp only [Cond.before, Cond.holds, Cond.value] at h ⊢
  rw [e9]
  exact h
theorem h_cwFU {own C J : String} {index maxL mc ms : Nat} {x y : MethodName} {bytes : ByteArray} {ret : Option FieldType} {rm : Room} (n : Nat) (ht : ∀ w ∈ lw_all, w.before args s = true) (hE : hEs D E B Z s) (hl : (own, index, x) ∈ hXls) (hu : (C, J, x, y) ∈ hFus) (h1 : Cond.selects C ⟨J, x.name, x.desc⟩ y ∈ lw_all) (h2 : Cond.instanceMethod y ∈ lw_all) (h3 : Cond.initialized y.cls ∈ lw_all) (h4 : Cond.code y bytes maxL ret ∈ lw_all) (hrc : rm.cells = mc) (hrs : rm.slots = ms) (hJ : J ≠ "java/lang/invoke/MethodHandle" ∧ J ≠ "java/lang/invoke/VarHandle")
    (hd : x.cls ≠ J ∧ x.cls ≠ "java/lang/invoke/MethodHandle" ∧ x.cls ≠ "java/lang/invoke/VarHandle" ∧ (parseMethodDescriptor x.desc).map (fun d => d.parameters.length) = some n) (hR : rm.frames + 1 ≤ R.frames ∧ 8 + (maxL + 11) + rm.locals ≤ R.locals) : hCFU R s args own C J index x y bytes maxL ret (ws_ y bytes maxL ret) rm mc ms n := by
  have hG := lw_meth h4
  refine ⟨⟨hrc, hrs, hR.1, hR.2, pay_in ht hG, List.mem_cons_self⟩, va_Nw.use rfl (hE.2.2.1.2.2.2.2.2.2.2.2.1 _ hl), hE.2.2.1.2.2.2.2.2.2.2.1 _ hu, h_selUp (hE.2.2.1.2.2.2.2.2.2.2.1 _ hu) hJ (ht _ h1), ht _ h2, ht _ h3, hd.1, ⟨hd.2.1, hd.2.2.1⟩, fun sig h => ?_⟩
  have h9 := hd.2.2.2
  rw [h] at h9
  exact (Option.some.inj h9).symm
theorem h_runFU {x y : MethodName} {bytes : ByteArray} {maxL nL mc ms n index count : Nat} {ret : Option FieldType} {ws : List Cond} {rm : Room} {Pc : Array Value → State → Prop} {Qc : Array Value → State → Outcome → State → Prop} {free : Addr → Prop} {Ts : List Cond} {own C J : String} {cC : ClassId} {b : Addr} {As rest : List Value} {g : JFrame}
    (hat : ClassAt s C cC) (S : CallFix p m c cc nL s args Ts own) (hM : Met l y ws rm Pc Qc mc ms free) (cw : hCFU R s args own C J index x y bytes maxL ret ws rm mc ms n) (hp : PreV s H C b Pc As)
    (hg : g.method = m) (hn : As.length = n) (hsize : g.locals.size = nL) (hstack : g.stack = As.reverse ++ .ref b :: rest) (hW : 2 * g.monitorRoom + (rest.map fun v => v.category).sum ≤ 8) (hdg : decode cc g.pc = .ok (.invokeinterface index count, 5)) (hf : cells + mc ≤ R.cells ∧ slots + ms ≤ R.slots) :
    va_Run5 p l e R s m args below meth c H locs cells slots mc ms g rest (Qc (Value.ref b :: As).toArray) (free) := by
  obtain ⟨⟨hrc, hrs, hfr, hlo, hws, hcw⟩, hlk, ⟨u1, u2, u3, u4, u5, u6⟩, hsel, hinst, hini, hxo, hxx, hlen⟩ := cw
  have hK : Back l R p e below s args y 5 8 (PreOf R mc ms Pc) (PostOf Qc mc ms free) := back_of (bytes := bytes) (maxL := maxL) (ret := ret) hM hp.1 hrc hrs hfr hlo hws hcw (fun a' U hW => word_at hW (Or.inl (by first | rfl | simp [Cond.onTables, Cond.keeps, Cond.steady])) hini)
  obtain ⟨hx, hb, hml, ho, -⟩ := S
  obtain ⟨-, ⟨cellB, hcB, hoB, hclB⟩, hPc⟩ := hp
  obtain ⟨hfc, kB, hkB, -⟩ := hat
  cases hfc.symm.trans hclB
  intro T hT X
  obtain ⟨v, vm₁, ⟨U', l2, c2, s2⟩, hW₁, X', ⟨g', mk, t, L, e1, e2, hq, h1, hL, h2, h3⟩, st⟩ := X.interfaceBackUp hx (C := C) (J := J) (s₀ := T.setTop g) ho hlk (va_any rfl u2) (va_any rfl u3) (va_any rfl u1) hxo hsel hinst (va_any rfl u4) (va_any rfl u5) (va_any rfl u6) hxx hK hfc hkB ⟨cellB, by rw [hT]; exact hcB, rfl, hoB⟩ hg (hsize.trans hml.symm) (Steps.refl _) (argsL := As) (rest := rest) (fun sig h => hn.trans (hlen sig h)) hstack hW (by rw [hb]; exact hdg)
    (fun vm₁ hW₁ => ⟨hf.1, hf.2, hPc (T.setVm vm₁) hT hW₁⟩)
  dsimp only [Pt.U, Pt.locs, Pt.cells, Pt.slots] at X' e1 e2 h1 h2 h3 st
  subst h1; subst h2; subst h3
  exact ⟨v, (T.setVm vm₁).calling g' mk (Value.ref b :: As).toArray, t, U', L, hT, X', hL, e1, e2, hq, fun tg h => st.trans h⟩
theorem hr_cGi {x y : MethodName} {bytes : ByteArray} {maxL nL mc ms n index count ci : Nat} {ret : Option FieldType} {ws : List Cond} {rm : Room} {own C J : String} {T : u_T} {N b : Nat} {As st : List Value} {Qn : hG → Int32 → Prop} (S : CallFix p m c cc nL s args lw_all own) (hM : Met l y ws rm (hPre D E B Z G (.ref b :: As)) (hQi D E B Z Qn) mc ms (hB B)) (cw : hCFU R s args own C J index x y bytes maxL ret ws rm mc ms n) (hE : hEs D E B Z s) (hh : hPw D E B Z G H) (hS : va_S (hB B) s.heap H locs) (hc : hcl G b ci) (hci : ci < 100) (hq : hCl[ci]? = some (C, T, N)) (hst : st = As.reverse ++ .ref b :: rest) (hn : As.length = n) (hsz : ls.size = nL) (hr : (rest.map fun v => v.category).sum ≤ 8) (hdg : decode cc pc = .ok (.invokeinterface index count, 5)) (hf : cells + mc ≤ R.cells ∧ slots + ms ≤ R.slots)
    (kk : ∀ (G' : hG) (r : Int32) (H1 : Heap) (locs1 : List Loc), Qn G' r → hPw D E B Z G' H1 → va_S (hB B) s.heap H1 locs1 → W p l e R s m args below meth c H1 locs1 (cells + mc) (slots + ms) Q (F0 m (pc + 5) ls (.int r :: rest))) : W p l e R s m args below meth c H locs cells slots Q (F0 m pc ls st) :=
  va_callFi (h_runFU (hr_at5 hE hq) S hM cw ⟨hPre.blind, hr_recv hE hh hS hc hci hq, hPre.at hE hh hS⟩ rfl hn hsz hst (lv_room hr) hdg hf) hS (fun q _ h => h) (fun q h => h) (fun r u t H1 locs1 ht hvm hw hB hz hk hS1 => kk u r H1 locs1 hw (by rw [← ht]; exact hB) hS1)
theorem hr_cGq {x y : MethodName} {bytes : ByteArray} {maxL nL mc ms n index count ci : Nat} {ret : Option FieldType} {ws : List Cond} {rm : Room} {own C J : String} {T : u_T} {N b : Nat} {As st : List Value} {Qn : hG → Option Nat → Prop} (S : CallFix p m c cc nL s args lw_all own) (hM : Met l y ws rm (hPre D E B Z G (.ref b :: As)) (hQq D E B Z Qn) mc ms (hB B)) (cw : hCFU R s args own C J index x y bytes maxL ret ws rm mc ms n) (hE : hEs D E B Z s) (hh : hPw D E B Z G H) (hS : va_S (hB B) s.heap H locs) (hc : hcl G b ci) (hci : ci < 100) (hq : hCl[ci]? = some (C, T, N)) (hst : st = As.reverse ++ .ref b :: rest) (hn : As.length = n) (hsz : ls.size = nL) (hr : (rest.map fun v => v.category).sum ≤ 8) (hdg : decode cc pc = .ok (.invokeinterface index count, 5)) (hf : cells + mc ≤ R.cells ∧ slots + ms ≤ R.slots)
    (kk : ∀ (G' : hG) (r : Option Nat) (H1 : Heap) (locs1 : List Loc), Qn G' r → hPw D E B Z G' H1 → va_S (hB B) s.heap H1 locs1 → W p l e R s m args below meth c H1 locs1 (cells + mc) (slots + ms) Q (F0 m (pc + 5) ls (va_rf r :: rest))) : W p l e R s m args below meth c H locs cells slots Q (F0 m pc ls st) :=
  va_callFq (h_runFU (hr_at5 hE hq) S hM cw ⟨hPre.blind, hr_recv hE hh hS hc hci hq, hPre.at hE hh hS⟩ rfl hn hsz hst (lv_room hr) hdg hf) hS (fun q _ h => h) (fun q h => h) (fun r u t H1 locs1 ht hvm hw hB hz hk hS1 => kk u r H1 locs1 hw (by rw [← ht]; exact hB) hS1)
end HROW4
theorem hm4 {a b c d : Cond} (ha : a ∈ lw_all) (hb : b ∈ lw_all) (hc : c ∈ lw_all) (hd : d ∈ lw_all) : ∀ w ∈ [a, b, c, d], w ∈ lw_all := by
  intro w h
  simp only [List.mem_cons, List.not_mem_nil, or_false] at h
  rcases h with e | e | e | e <;> rw [e] <;> assumption
theorem hm5 {a b c d e : Cond} (ha : a ∈ lw_all) (hb : b ∈ lw_all) (hc : c ∈ lw_all) (hd : d ∈ lw_all) (he : e ∈ lw_all) : ∀ w ∈ [a, b, c, d, e], w ∈ lw_all := by
  intro w h
  simp only [List.mem_cons, List.not_mem_nil, or_false] at h
  rcases h with e | e | e | e | e <;> rw [e] <;> assumption
theorem hm6 {a b c d e f : Cond} (ha : a ∈ lw_all) (hb : b ∈ lw_all) (hc : c ∈ lw_all) (hd : d ∈ lw_all) (he : e ∈ lw_all) (hf : f ∈ lw_all) : ∀ w ∈ [a, b, c, d, e, f], w ∈ lw_all := by
  intro w h
  simp only [List.mem_cons, List.not_mem_nil, or_false] at h
  rcases h with e | e | e | e | e | e <;> rw [e] <;> assumption
theorem hcpR_0 {G : hG} {a dp sp : Nat} {f : Nat → Option Nat} : hcpR G a dp f sp 0 = G := by
  unfold hcpR
  have e : (fun b j => if b = a then va_cpy f (hR G a) sp dp 0 j else hR G b j) = hR G := by
    funext b j
    split
    · rename_i h
      rw [h]
      exact pk_cpy_out (by omega)
    · rfl
  rw [e]
  rfl
section HROW5
variable {p : Program} {l : Launch} {e : Env} {R : Room} {s : State} {m : MethodId} {args : Array Value} {below : List Frame} {meth : Method} {c : Code} {H : Heap} {locs : List Loc} {cells slots : Nat} {Q : State → Prop}
variable {cc : ByteArray} {pc : Nat} {ls : Array Slot} {rest : List Value} {D : va_G} {E : Nat → ClassId} {B : Nat} {Z G : hG} {a : Nat}
/-- a copy of no elements out of a constant array -/
theorem hr_copyR0 {own : String} {index a0 : Nat} (hx : p.tables.exec = Jvm.exec) (hb : c.code = cc) (hml : c.maxLocals = ls.size) (hown : s.vm.findClass own = some m.cls) (hlink : (Cond.methodLink own index arraycopyName).before args s = true) (hnat : (Cond.native arraycopyName).before args s = true) (hstat : (Cond.static arraycopyName).before args s = true) (hini : (Cond.initialized "java/lang/System").before args s = true)
    (hE : hEs D E B Z s) (hh : hPw D E B Z G H) (hS : va_S (hB B) s.heap H locs) (hc0 : hC G a0 = some (103, false)) (hc : hC G a = some (103, true)) {sp dp n : Int32} (h1 : ¬ sp < 0) (h2 : ¬ dp < 0) (h3 : n = 0) (h4 : sp.toNatClampNeg ≤ hN G a0) (h5 : dp.toNatClampNeg ≤ hN G a)
    (hframes : 1 ≤ R.frames) (hlocals : (rest.map fun v => v.category).sum + (nativeFrameWords "java/lang/System" "arraycopy" 5 + 11) ≤ R.locals) (hdg : decode cc pc = .ok (.invokestatic index, 3))
    (kk : ∀ (H1 : Heap) (locs1 : List Loc), hPw D E B Z G H1 → va_S (hB B) s.heap H1 locs1 → W p l e R s m args below meth c H1 locs1 cells slots Q (F0 m (pc + 3) ls rest)) : W p l e R s m args below meth c H locs cells slots Q (F0 m pc ls (.int n :: .int dp :: .ref a :: .int sp :: .ref a0 :: rest)) := by
  have nn : ∀ z : Int32, ¬ z < 0 → z.toInt = (z.toNatClampNeg : Int) := by
    intro z hz
    have hz0 : (0 : Int) ≤ z.toInt := by
      have := Int32.not_lt.mp hz
      simpa using Int32.le_iff_toInt_le.mp this
    show z.toInt = ((z.toInt.toNat : Nat) : Int)
    omega
  subst h3
  obtain ⟨ty, t1, t2⟩ := hh.atC (t := 3) hE hc0
  cases t1
  obtain ⟨scr, hs1, hs2, hs3, hs4, -, hs5, hs7⟩ := t2
  have hc0' : H[a0]? = some scr := by rw [hS.2.1 a0 (Array.getElem?_eq_some_iff.mp hs1).1 hs7]; exact hs1
  have hc1 : H[a]? = some (vp_cell (E 3) (hN G a, .inr (.inr (.inr (.inr (hR G a)))))) := hh.atA (t := 3) hc
  obtain ⟨hs6, k0, hk0, cm0, hkk0⟩ := hs2
  obtain ⟨-, k1, hk1, cm1, hkk1⟩ := (hE.1.2 3 _ rfl).1 (hN G a) (fun j => va_rf (hR G a j))
  intro T hT X
  obtain ⟨vm', X', step⟩ := X.arraycopy hx hown hlink hnat hstat hini (src := a0) (dst := a) (cs := scr) (cd := vp_cell (E 3) (hN G a, .inr (.inr (.inr (.inr (hR G a)))))) (srcPos := sp) (destPos := dp) (n := 0) (by rw [hT]; exact hc0') (by rw [hT]; exact hc1)
    hs6 (fun _ h => by cases h) hs3 (fun h => by cases h) hk0 hk1 hkk0 hkk1 rfl h1 h2 (by decide)
    (by rw [nn sp h1]; show ¬ ((sp.toNatClampNeg : Int) + 0 > _); omega)
    (by rw [nn dp h2]; show ¬ ((dp.toNatClampNeg : Int) + 0 > ((arrV (E 3) (hN G a) (fun j => va_rf (hR G a j))).slots.size : Int)); rw [arrV_size]; omega)
    (fun vm₁ _ i hi => absurd hi (Nat.not_lt_zero i))
    (g := F0 m pc ls (.int 0 :: .int dp :: .ref a :: .int sp :: .ref a0 :: rest)) rfl (by rw [hml]) (rest := rest) rfl (by rw [hb]; exact hdg) hframes (by show 2 * 0 + _ + _ ≤ _; omega)
  have e1 : copied scr (vp_cell (E 3) (hN G a, .inr (.inr (.inr (.inr (hR G a)))))) sp dp 0 = vp_cell (E 3) (hN G a, .inr (.inr (.inr (.inr (hR G a))))) := by
    have := va_copiedX (fun z => va_rf z) scr (E 3) (n0 := 0) (n1 := hN G a) (sp := 0) (dp := dp.toNatClampNeg) (n := 0) (fun _ => none) (hR G a) (fun j hj => absurd hj (Nat.not_lt_zero j)) (Nat.le_refl 0)
    have e2 : (fun j => va_rf (va_cpy (fun _ => none) (hR G a) 0 dp.toNatClampNeg 0 j)) = fun j => va_rf (hR G a j) := by
      funext j
      rw [pk_cpy_out (by omega)]
    rw [e2] at this
    exact this
  rw [e1] at X' step
  have hl : a < H.size := (Array.getElem?_eq_some_iff.mp hc1).1
  have hheap : ((T.setVm vm').setCell a (vp_cell (E 3) (hN G a, .inr (.inr (.inr (.inr (hR G a))))))).heap = H.setIfInBounds a (vp_cell (E 3) (hN G a, .inr (.inr (.inr (.inr (hR G a)))))) := by rw [← hT]; rfl
  have oq : ∀ q : Nat, (H.setIfInBounds a (vp_cell (E 3) (hN G a, .inr (.inr (.inr (.inr (hR G a)))))))[q]? = H[q]? := fun q => by
    by_cases hq : q = a
    · subst hq
      simp [Array.getElem?_setIfInBounds, hl, hc1]
      exact (Array.getElem?_eq_some_iff.mp hc1).2.symm
    · simp [Array.getElem?_setIfInBounds, Ne.symm hq]
  have haB : B ≤ a := (hh.1 a _ hc).2
  obtain ⟨t, a1, b1⟩ := kk _ _ ⟨fun b cb hb => ⟨((hh.1 b cb hb).1).kept (oq b), (hh.1 b cb hb).2⟩, hh.2.1, by simp; exact hh.2.2.1, hh.2.2.2⟩ ⟨by simp; exact hS.1, fun q g1 g2 => by
      rw [oq q]
      exact hS.2.1 q g1 g2, fun q hq => by
      rcases List.mem_append.mp hq with h | h
      · exact hS.2.2 q h
      · obtain ⟨z, -, hz⟩ := List.mem_map.mp h
        rw [← hz]
        exact haB⟩ _ hheap X'
  exact ⟨t, step t a1, b1⟩
/-- the copy of an array of ints; its class kept -/
theorem hr_cloneI {own : String} {index : Nat} (hx : p.tables.exec = Jvm.exec) (hb : c.code = cc) (hml : c.maxLocals = ls.size) (hown : s.vm.findClass own = some m.cls)
    (hlink : (Cond.methodLink own index ⟨"[I", "clone", "()Ljava/lang/Object;"⟩).before args s = true) (hsame : (Cond.sameMethod "[I" "java/lang/Object" "clone" "()Ljava/lang/Object;").before args s = true)
    (hnat : (Cond.native ⟨"java/lang/Object", "clone", "()Ljava/lang/Object;"⟩).before args s = true) (hinst : (Cond.instanceMethod ⟨"java/lang/Object", "clone", "()Ljava/lang/Object;"⟩).before args s = true)
    (hsel : (Cond.selects "[I" ⟨"[I", "clone", "()Ljava/lang/Object;"⟩ ⟨"java/lang/Object", "clone", "()Ljava/lang/Object;"⟩).before args s = true) (hcl : Cond.castable "[I" "java/lang/Cloneable" ∈ lw_tbl)
    (hE : hEs D E B Z s) (hh : hPw D E B Z G H) (hS : va_S (hB B) s.heap H locs) (hc : hC G a = some (100, true)) (hframes : 1 ≤ R.frames) (hlocals : (rest.map fun v => v.category).sum + 14 ≤ R.locals) (hcells : cells + 1 ≤ R.cells) (hslots : slots + hN G a ≤ R.slots) (hdg : decode cc pc = .ok (.invokevirtual index, 3))
    (kk : ∀ (q : Nat) (H1 : Heap), hfr G q → hPw D E B Z (hcpI (hnw G q 100 (hN G a)) q 0 (hI G a) 0 (hN G a)) H1 → va_S (hB B) s.heap H1 locs → W p l e R s m args below meth c H1 locs (cells + 1) (slots + hN G a) Q (F0 m (pc + 3) ls (.ref q :: rest))) : W p l e R s m args below meth c H locs cells slots Q (F0 m pc ls (.ref a :: rest)) := by
  obtain ⟨q0, hq0⟩ := hWs_at (E := E) hc (hh.lt hc)
  have hnm : s.vm.findClass "[I" = some (E 0) := (hE.1.2 0 _ rfl).2
  refine va_clone (x := (hN G a, .inl (hI G a))) (cA := E 0) hx hb hml hown hlink hsame hnat hinst hsel (hE.2.2.1.2.2.1 _ _ hcl) hE.1 hh.P hh.Dw hS (fun q h => Nat.le_trans hE.2.2.2.2 h) q0 0 hq0 rfl hnm (fun i v hv => ?_) hframes hlocals hcells hslots hdg fun q H1 hK1 hP1 hD1 hS1 => ?_
  · have h1 : (arrV (E 0) (hN G a) (fun j => .int (hI G a j))).slots[i]? = some v := hv
    by_cases hi : i < hN G a
    · rw [arrV_read _ _ hi] at h1
      cases h1
      rfl
    · have hz : (arrV (E 0) (hN G a) (fun j => .int (hI G a j))).slots[i]? = none := by
        rw [Array.getElem?_eq_none_iff, arrV_size]
        omega
      rw [hz] at h1
      cases h1
  · have hlast : (hWs E G H.size ++ [(q, Sum.inl (E 0, (hN G a, Sum.inl (hI G a))))])[(hWs E G H.size).length]? = some (q, Sum.inl (E 0, (hN G a, Sum.inl (hI G a)))) := by simp
    have hqB : B ≤ q := hD1.2 _ _ hlast
    have hne : ∀ b cb, hC G b = some (cb, true) → b ≠ q := by
      intro b cb hb z
      subst z
      obtain ⟨k, hk⟩ := hWs_at (E := E) hb (hh.lt hb)
      have hkl := (List.getElem?_eq_some_iff.mp hk).1
      have := hD1.1 k _ (b, hEnt E G b cb) _ (by rw [List.getElem?_append_left hkl]; exact hk) hlast rfl
      omega
    have hfrq : hfr G q := by
      cases hc9 : hC G q with
      | none => exact hc9
      | some c9 =>
        obtain ⟨cq, b⟩ := c9
        cases b with
        | true => exact absurd rfl (hne q cq hc9)
        | false => exact absurd hc9 (hh.2.2.2 q cq hqB)
    have hC9 : ∀ b, hC (hcpI (hnw G q 100 (hN G a)) q 0 (hI G a) 0 (hN G a)) b = if b = q then some (100, true) else hC G b := fun b => rfl
    have hsm : ∀ b, b ≠ q → hSm G (hcpI (hnw G q 100 (hN G a)) q 0 (hI G a) 0 (hN G a)) b := fun b hb => (hSm_nw hb).tr (hSm_cpI hb)
    refine kk q H1 hfrq ⟨fun b cb hb => ?_, ⟨fun b hb => ?_, hh.2.1.2⟩, Nat.le_trans hE.2.2.2.2 hS1.1, fun b cb hb => ?_⟩ hS1
    · rw [hC9] at hb
      by_cases hbq : b = q
      · subst hbq
        rw [if_pos rfl] at hb
        cases hb
        refine ⟨?_, hqB⟩
        have h2 := hP1 _ _ hlast
        show H1[b]? = some (vp_cell (E 0) (hArr (hcpI (hnw G b 100 (hN G a)) b 0 (hI G a) 0 (hN G a)) b 0))
        have h3 : H1[b]? = some (vp_cell (E 0) (hN G a, .inl (hI G a))) := h2
        rw [h3]
        congr 1
        show arrV (E 0) (hN G a) (fun j => .int (hI G a j)) = arrV (E 0) (hN (hnw G b 100 (hN G a)) b) (fun j => .int (if b = b then va_cpy (hI G a) (hI (hnw G b 100 (hN G a)) b) 0 0 (hN G a) j else _))
        rw [hN_nw, if_pos rfl]
        unfold arrV
        congr 1
        apply congrArg
        funext j
        show Value.int _ = Value.int (if b = b then _ else _)
        rw [if_pos rfl, pk_cpy_in (by omega) (by omega)]
        simp
      · rw [if_neg hbq] at hb
        obtain ⟨k, hk⟩ := hWs_at (E := E) hb (hh.lt hb)
        have hkl := (List.getElem?_eq_some_iff.mp hk).1
        rw [hEnt_sm (hsm b hbq)]
        exact ⟨hP1 k _ (by rw [List.getElem?_append_left hkl]; exact hk), (hh.1 b cb hb).2⟩
    · have hbq : b ≠ q := by
        intro z
        subst z
        omega
      obtain ⟨h1, h2⟩ := hh.2.1.1 b hb
      exact ⟨by rw [hC9, if_neg hbq]; exact h1, h2.tr (hsm b hbq)⟩
    · rw [hC9]
      split
      · simp
      · exact hh.2.2.2 b cb hb
theorem hr_castI (hx : p.tables.exec = Jvm.exec) (hb : c.code = cc) {own : String} {index : Nat} (hown : s.vm.findClass own = some m.cls) (hlink : (Cond.classLink own index "[I").before args s = true) (hE : hEs D E B Z s) (hh : hPw D E B Z G H) (hc : hC G a = some (100, true)) (hdg : decode cc pc = .ok (.checkcast index, 3))
    (kk : W p l e R s m args below meth c H locs cells slots Q (F0 m (pc + 3) ls (.ref a :: rest))) : W p l e R s m args below meth c H locs cells slots Q (F0 m pc ls (.ref a :: rest)) :=
  va_castA hx hb hown hlink (h_one (hh.atA (t := 0) hc)) 0 rfl (hE.1.2 0 _ rfl).2 hdg kk
end HROW5
