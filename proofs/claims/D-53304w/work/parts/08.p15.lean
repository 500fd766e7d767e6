/-! ===== plain law 15: maps as lists: words with counts, names ===== -/
set_option maxRecDepth 100000
def lkA {α : Type} (key : Wd) : List (Wd × α) → Option α
  | [] => none
  | (y, d) :: t => if key = y then some d else lkA key t
theorem lkA_none {α : Type} {key : Wd} : ∀ {E : List (Wd × α)}, (∀ e, e ∈ E → e.1 ≠ key) → lkA key E = none
  | [], _ => rfl
  | (y, d) :: t, h => by
    show (if key = y then some d else lkA key t) = none
    rw [if_neg (h _ List.mem_cons_self).symm]
    exact lkA_none (fun e he => h e (List.mem_cons_of_mem _ he))
theorem lkA_mid {α : Type} {key : Wd} {d : α} : ∀ {A B : List (Wd × α)}, (∀ e, e ∈ A → e.1 ≠ key) → lkA key (A ++ (key, d) :: B) = some d
  | [], B, _ => if_pos rfl
  | (y, d') :: A, B, h => by
    show (if key = y then some d' else lkA key (A ++ (key, d) :: B)) = some d
    rw [if_neg (h _ List.mem_cons_self).symm]
    exact lkA_mid (fun e he => h e (List.mem_cons_of_mem _ he))
def pMp (o : gO) (G : hG) (u : Nat × Nat) (t : Nat) (E : List En) : Prop := ∃ (L : List Nat) (k : Nat → Wd) (v : Nat → Option Nat) (sub : Nat → List Nat) (root : Option Nat), pTM o G u t L.length L k v sub root ∧ E = L.map (fun n => (k n, v n)) ∧ E.Pairwise eLt
section PMP
variable {M : Nat × Nat → Prop} {o o' : gO} {G G' : hG} {u : Nat × Nat} {t a : Nat} {E : List En} {key : Wd}
theorem pMp.fr (h : pMp o G u t E) (hf : gFr M o G o' G') (hu : ¬ M u) (h0 : ¬ M (0, 0)) : pMp o' G' u t E := by
  obtain ⟨L, k, v, sub, root, h1, h2, h3⟩ := h
  exact ⟨L, k, v, sub, root, h1.fr hf hu h0, h2, h3⟩
theorem pMp.c (h : pMp o G u t E) : hC G t = some (9, true) := by
  obtain ⟨L, k, v, sub, root, h1, h2, h3⟩ := h
  exact h1.c
theorem kpw {L : List Nat} {k : Nat → Wd} {v : Nat → Option Nat} (h : (L.map (fun n => ((k n, v n) : En))).Pairwise eLt) : L.Pairwise (kLt k) := (List.pairwise_map.mp h).imp (fun z => z)
theorem s_msize {Q : hG → Int32 → Prop} (h : pMp o G u t E) (hQ : Q G (nI E.length)) : wJ1_size Q t G := by
  obtain ⟨L, k, v, sub, root, h1, h2, h3⟩ := h
  refine s_tmsize h1 ?_
  rw [h2, List.length_map] at hQ
  exact hQ
theorem s_mhas {Q : hG → Int32 → Prop} (h : pMp o G u t E) (hk : pW o G a key) (hQ : Q G (if key ∈ E.map Prod.fst then 1 else 0)) : wJ1_containsKey Q t (some a) G := by
  obtain ⟨L, k, v, sub, root, h1, h2, h3⟩ := h
  rw [h2] at h3
  refine s_containsKey h1 (kpw h3) hk ?_
  rw [h2, List.map_map] at hQ
  exact hQ
theorem s_mget {Q : hG → Option Nat → Prop} (h : pMp o G u t E) (hk : pW o G a key) (hQ : Q G (lkA key E).join) : wJ1_get Q t (some a) G := by
  obtain ⟨L, k, v, sub, root, h1, h2, h3⟩ := h
  rw [h2] at h3
  refine s_tmget h1 (kpw h3) hk (fun n hn e => ?_) (fun hn => ?_)
  · obtain ⟨A, B, hL⟩ := List.append_of_mem hn
    have hpw := kpw h3
    rw [hL] at hpw
    rw [h2, hL, List.map_append, List.map_cons, e, lkA_mid (fun x hx => ?_)] at hQ
    · exact hQ
    · obtain ⟨m, hm, rfl⟩ := List.mem_map.mp hx
      have := (pw_mid hpw).1 m hm
      rw [← e]
      exact wlt_ne this
  · rw [h2, lkA_none (fun x hx => ?_)] at hQ
    · exact hQ
    · obtain ⟨m, hm, rfl⟩ := List.mem_map.mp hx
      exact hn m hm
theorem s_mput {Q : hG → Option Nat → Prop} {x : Option Nat} (h : pMp o G u t E) (hu : u ≠ (0, 0)) (hlen : E.length < 1000) (hk : pW o G a key) (hQ : ∀ o' G', pMp o' G' u t (insA key x E) → gFr (gOnly u) o G o' G' → Q G' (lkA key E).join) : wJ1_put Q t (some a) x G := by
  obtain ⟨L, k, v, sub, root, h1, h2, h3⟩ := h
  rw [h2] at h3 hQ hlen
  rw [List.length_map] at hlen
  have hpw := kpw h3
  refine s_put h1 hu hlen hpw hk (fun n hn e G' g1 g2 => ?_) (fun A B hL hA hB o' G' sub' root' q hq g1 g2 => ?_)
  · obtain ⟨A, B, hL⟩ := List.append_of_mem hn
    have hpw2 := hpw
    rw [hL] at hpw2
    have hA : ∀ m, m ∈ A → wlt (k m) key = true := fun m hm => by rw [← e]; exact (pw_mid hpw2).1 m hm
    have hE : L.map (fun n => ((k n, v n) : En)) = A.map (fun n => (k n, v n)) ++ (key, v n) :: B.map (fun n => (k n, v n)) := by rw [hL, List.map_append, List.map_cons, e]
    have hA2 : ∀ e9, e9 ∈ A.map (fun n => ((k n, v n) : En)) → wlt e9.1 key = true := fun e9 he => by
      obtain ⟨m, hm, rfl⟩ := List.mem_map.mp he
      exact hA m hm
    rw [hE, insA_old hA2, lkA_mid (fun e9 he => wlt_ne (hA2 e9 he))] at hQ
    refine hQ o G' ⟨L, k, fu v n x, sub, root, g1, ?_, ?_⟩ g2
    · have hnd := h1.ti.nd
      rw [hL] at hnd ⊢
      rw [List.map_append, List.map_cons, fu_s, e]
      congr 1
      · exact List.map_congr_left fun m hm => by rw [fu_n (fun z => (List.nodup_append.mp hnd).2.2 m hm n List.mem_cons_self z)]
      · congr 1
        exact List.map_congr_left fun m hm => by rw [fu_n (fun z => (List.nodup_cons.mp (List.nodup_append.mp hnd).2.1).1 (by rw [← z]; exact hm))]
    · rw [hE] at h3
      exact (List.pairwise_append.mpr ⟨(List.pairwise_append.mp h3).1, List.pairwise_cons.mpr ⟨fun y hy => (List.pairwise_cons.mp (List.pairwise_append.mp h3).2.1).1 y hy, (List.pairwise_cons.mp (List.pairwise_append.mp h3).2.1).2⟩, fun y hy z hz => by
        rcases List.mem_cons.mp hz with w | w
        · rw [w]
          exact hA2 y hy
        · exact (List.pairwise_append.mp h3).2.2 y hy z (List.mem_cons_of_mem _ w)⟩)
  · have hE : L.map (fun n => ((k n, v n) : En)) = A.map (fun n => (k n, v n)) ++ B.map (fun n => (k n, v n)) := by rw [hL, List.map_append]
    have hA2 : ∀ e9, e9 ∈ A.map (fun n => ((k n, v n) : En)) → wlt e9.1 key = true := fun e9 he => by
      obtain ⟨m, hm, rfl⟩ := List.mem_map.mp he
      exact hA m hm
    have hB2 : ∀ e9, e9 ∈ B.map (fun n => ((k n, v n) : En)) → wlt key e9.1 = true := fun e9 he => by
      obtain ⟨m, hm, rfl⟩ := List.mem_map.mp he
      exact hB m hm
    rw [hE, insA_new hA2 hB2, lkA_none (fun e9 he => by
      rcases List.mem_append.mp he with w | w
      · exact wlt_ne (hA2 e9 w)
      · exact (wlt_ne (hB2 e9 w)).symm)] at hQ
    have hlen2 : (A ++ q :: B).length = L.length + 1 := by
      rw [hL, List.length_append, List.length_append, List.length_cons]
      omega
    rw [← hlen2] at g1
    refine hQ o' G' ⟨A ++ q :: B, fu k q key, fu v q x, sub', root', g1, ?_, ?_⟩ g2
    · have nA : ∀ m, m ∈ A → m ≠ q := fun m hm z => hq (by rw [← z, hL]; exact List.mem_append_left _ hm)
      have nB : ∀ m, m ∈ B → m ≠ q := fun m hm z => hq (by rw [← z, hL]; exact List.mem_append_right _ hm)
      rw [List.map_append, List.map_cons, fu_s, fu_s]
      congr 1
      · exact List.map_congr_left fun m hm => by rw [fu_n (nA m hm), fu_n (nA m hm)]
      · congr 1
        exact List.map_congr_left fun m hm => by rw [fu_n (nB m hm), fu_n (nB m hm)]
    · rw [hE] at h3
      exact List.pairwise_append.mpr ⟨(List.pairwise_append.mp h3).1, List.pairwise_cons.mpr ⟨fun y hy => hB2 y hy, (List.pairwise_append.mp h3).2.1⟩, fun y hy z hz => by
        rcases List.mem_cons.mp hz with w | w
        · rw [w]
          exact hA2 y hy
        · exact (List.pairwise_append.mp h3).2.2 y hy z w⟩
theorem s_mrem {Q : hG → Option Nat → Prop} (h : pMp o G u t E) (hu : u ≠ (0, 0)) (hk : pW o G a key) (hQ : ∀ G', pMp o G' u t (rmA key E) → gFr (gOnly u) o G o G' → Q G' (lkA key E).join) : wJ1_remove Q t (some a) G := by
  have hh := h
  obtain ⟨L, k, v, sub, root, h1, h2, h3⟩ := h
  have h3' := h3
  rw [h2] at h3
  have hpw := kpw h3
  refine s_tmremove h1 hu hpw hk (fun hn => ?_) (fun A n B hL e G' L' k' v' sub' root' g1 g2 g3 => ?_)
  · have hn2 : ∀ e9, e9 ∈ E → e9.1 ≠ key := fun e9 he => by
      rw [h2] at he
      obtain ⟨m, hm, rfl⟩ := List.mem_map.mp he
      exact hn m hm
    rw [rmA_none hn2, lkA_none hn2] at hQ
    exact hQ G hh gFr.rf
  · have hE : E = A.map (fun n => (k n, v n)) ++ (key, v n) :: B.map (fun n => (k n, v n)) := by rw [h2, hL, List.map_append, List.map_cons, e]
    rw [hE] at h3'
    have hA2 : ∀ e9, e9 ∈ A.map (fun n => ((k n, v n) : En)) → e9.1 ≠ key := fun e9 he => wlt_ne ((List.pairwise_append.mp h3').2.2 e9 he _ List.mem_cons_self)
    rw [hE, rmA_mid h3', lkA_mid hA2] at hQ
    refine hQ G' ⟨L', k', v', sub', root', g1, ?_, ?_⟩ g3
    · rw [g2, List.map_append]
    · exact List.pairwise_append.mpr ⟨(List.pairwise_append.mp h3').1, (List.pairwise_cons.mp (List.pairwise_append.mp h3').2.1).2, fun y hy z hz => (List.pairwise_append.mp h3').2.2 y hy z (List.mem_cons_of_mem _ hz)⟩
end PMP
/-! Integers -/
def pIn (o : gO) (G : hG) (a n : Nat) : Prop := ∃ b, hC G a = some (22, b) ∧ o a = (0, 0) ∧ hI G a 0 = nI n
theorem pIn.fr {M : Nat × Nat → Prop} {o o' : gO} {G G' : hG} {a n : Nat} (h : pIn o G a n) (hf : gFr M o G o' G') (h0 : ¬ M (0, 0)) : pIn o' G' a n := by
  obtain ⟨b, h1, h2, h3⟩ := h
  exact ⟨b, hf.C h1, (hf.O h1).trans h2, (hf.S h1 h2 h0).I h3⟩
theorem pIn.cl {o : gO} {G : hG} {a n : Nat} (h : pIn o G a n) : hcl G a 22 := by
  obtain ⟨b, h1, h2, h3⟩ := h
  cases b
  · exact hclf h1
  · exact hclt h1
/-- the cache of small Integers -/
def kIc (o : gO) (G : hG) : Prop := hC G (hK G 2) = some (105, false) ∧ o (hK G 2) = (0, 0) ∧ hN G (hK G 2) = 256 ∧ ∀ i, i < 128 → ∃ a, hR G (hK G 2) (i + 128) = some a ∧ pIn o G a i
theorem kIc.fr {M : Nat × Nat → Prop} {o o' : gO} {G G' : hG} (h : kIc o G) (hf : gFr M o G o' G') (h0 : ¬ M (0, 0)) : kIc o' G' := by
  obtain ⟨h1, h2, h3, h4⟩ := h
  have s := hf.S h1 h2 h0
  unfold kIc
  rw [hf.2]
  refine ⟨hf.C h1, (hf.O h1).trans h2, s.N h3, fun i hi => ?_⟩
  obtain ⟨a, h5, h6⟩ := h4 i hi
  exact ⟨a, s.R h5, h6.fr hf h0⟩
theorem s_valueOf {Q : hG → Option Nat → Prop} {o : gO} {G : hG} {n : Nat} (h : kIc o G) (hn : n < 2 ^ 30) (hQ : ∀ o' G' a, pIn o' G' a n → (∀ M, gFr M o G o' G') → Q G' (some a)) : wJ20_valueOf Q (nI n) G := by
  unfold wJ20_valueOf
  refine br_f (fun z => ?_) (br_c (fun c => ?_) (fun c => ?_))
  · have h1 := Int32.lt_iff_toInt_lt.mp z
    rw [nI_toInt (by omega)] at h1
    have : (-128 : Int32).toInt = -128 := by decide
    omega
  · unfold wJ20_valueOf_b23
    intro q hq
    refine hlet_i ?_
    unfold wJ20_init wJ19_init_c22
    have c9 : hC (hnw G q 22 0) q = some (22, true) := by rw [hC_nw, if_pos rfl]
    refine ⟨c9, hlet_i (hQ (gU o q (0, 0)) _ q ⟨true, c9, gU_s, by rw [hI_sI, if_pos ⟨rfl, rfl⟩]⟩ fun M => (gFr.rf.nw (0, 0) hq).sI (Or.inl hq))⟩
  · have h127 : n ≤ 127 := by
      apply Nat.not_lt.mp
      intro z
      exact c (nI_lt (a := 127) z (by omega))
    obtain ⟨h1, h2, h3, h4⟩ := h
    obtain ⟨a, h5, h6⟩ := h4 n (by omega)
    have e : nI n + (128 : Int32) = nI (n + 128) := nI_add n 128
    rw [e]
    refine ⟨h1, by rw [h3]; exact vp_in_nI (by omega) (by omega), hlet_i ?_⟩
    rw [nI_clamp (by omega), h5]
    exact hQ o G a h6 fun M => gFr.rf
/-! words with counts -/
abbrev Wn : Type := Wd × Nat
def vInt (o : gO) (G : hG) : List En → List Wn → Prop
  | [], [] => True
  | e :: E, w :: V => (e.1 = w.1 ∧ ∃ a, e.2 = some a ∧ pIn o G a w.2) ∧ vInt o G E V
  | _, _ => False
theorem vInt.fr {M : Nat × Nat → Prop} {o o' : gO} {G G' : hG} (hf : gFr M o G o' G') (h0 : ¬ M (0, 0)) : ∀ {E : List En} {V : List Wn}, vInt o G E V → vInt o' G' E V
  | [], [], _ => trivial
  | [], _ :: _, h => h
  | _ :: _, [], h => h
  | e :: E, w :: V, ⟨⟨h1, a, h2, h3⟩, h4⟩ => ⟨⟨h1, a, h2, h3.fr hf h0⟩, vInt.fr hf h0 h4⟩
theorem vInt.keys {o : gO} {G : hG} : ∀ {E : List En} {V : List Wn}, vInt o G E V → E.map Prod.fst = V.map Prod.fst
  | [], [], _ => rfl
  | [], _ :: _, h => h.elim
  | _ :: _, [], h => h.elim
  | e :: E, w :: V, ⟨⟨h1, _⟩, h4⟩ => by rw [List.map_cons, List.map_cons, h1, vInt.keys h4]
theorem vInt.len {o : gO} {G : hG} {E : List En} {V : List Wn} (h : vInt o G E V) : E.length = V.length := by
  have := congrArg List.length h.keys
  rw [List.length_map, List.length_map] at this
  exact this
theorem vInt.ins {o : gO} {G : hG} {key : Wd} {a n : Nat} (ha : pIn o G a n) : ∀ {E : List En} {V : List Wn}, vInt o G E V → vInt o G (insA key (some a) E) (insA key n V)
  | [], [], _ => ⟨⟨rfl, a, rfl, ha⟩, trivial⟩
  | [], _ :: _, h => h.elim
  | _ :: _, [], h => h.elim
  | (x, d) :: E, (y, c) :: V, ⟨⟨h1, h2⟩, h4⟩ => by
    have e1 : x = y := h1
    subst e1
    show vInt o G (if key = x then _ else if wlt key x then _ else _) (if key = x then _ else if wlt key x then _ else _)
    by_cases c1 : key = x
    · rw [if_pos c1, if_pos c1]
      exact ⟨⟨rfl, a, rfl, ha⟩, h4⟩
    · rw [if_neg c1, if_neg c1]
      by_cases c2 : wlt key x = true
      · rw [if_pos c2, if_pos c2]
        exact ⟨⟨rfl, a, rfl, ha⟩, ⟨rfl, h2⟩, h4⟩
      · rw [if_neg c2, if_neg c2]
        exact ⟨⟨rfl, h2⟩, vInt.ins ha h4⟩
theorem vInt.rm {o : gO} {G : hG} {key : Wd} : ∀ {E : List En} {V : List Wn}, vInt o G E V → vInt o G (rmA key E) (rmA key V)
  | [], [], _ => trivial
  | [], _ :: _, h => h.elim
  | _ :: _, [], h => h.elim
  | (x, d) :: E, (y, c) :: V, ⟨⟨h1, h2⟩, h4⟩ => by
    have e1 : x = y := h1
    subst e1
    have ih := vInt.rm (key := key) h4
    unfold rmA at ih ⊢
    rw [List.filter_cons, List.filter_cons]
    by_cases c1 : x = key
    · simp only [c1, bne_self_eq_false]
      exact ih
    · have : (x != key) = true := by simp [c1]
      simp only [this, if_true]
      exact ⟨⟨rfl, h2⟩, ih⟩
theorem vInt.lk {o : gO} {G : hG} {key : Wd} : ∀ {E : List En} {V : List Wn}, vInt o G E V → (lkA key V = none ∧ (lkA key E).join = none) ∨ (∃ n a, lkA key V = some n ∧ (lkA key E).join = some a ∧ pIn o G a n)
  | [], [], _ => Or.inl ⟨rfl, rfl⟩
  | [], _ :: _, h => h.elim
  | _ :: _, [], h => h.elim
  | (x, d) :: E, (y, c) :: V, ⟨⟨h1, a, h2, h3⟩, h4⟩ => by
    have e1 : x = y := h1
    subst e1
    have e2 : d = some a := h2
    subst e2
    show ((if key = x then some c else lkA key V) = none ∧ (if key = x then some (some a) else lkA key E).join = none) ∨ _
    by_cases c1 : key = x
    · refine Or.inr ⟨c, a, ?_, ?_, h3⟩
      · show (if key = x then some c else lkA key V) = some c
        rw [if_pos c1]
      · show (if key = x then some (some a) else lkA key E).join = some a
        rw [if_pos c1]
        rfl
    · rcases vInt.lk (key := key) h4 with ⟨g1, g2⟩ | ⟨n, b, g1, g2, g3⟩
      · refine Or.inl ⟨?_, ?_⟩
        · rw [if_neg c1]
          exact g1
        · rw [if_neg c1]
          exact g2
      · refine Or.inr ⟨n, b, ?_, ?_, g3⟩
        · show (if key = x then some c else lkA key V) = some n
          rw [if_neg c1]
          exact g1
        · show (if key = x then some (some a) else lkA key E).join = some b
          rw [if_neg c1]
          exact g2
def pWs (o : gO) (G : hG) (u : Nat × Nat) (t : Nat) (V : List Wn) : Prop := ∃ E, pMp o G u t E ∧ vInt o G E V
theorem pWs.fr {M : Nat × Nat → Prop} {o o' : gO} {G G' : hG} {u : Nat × Nat} {t : Nat} {V : List Wn} (h : pWs o G u t V) (hf : gFr M o G o' G') (hu : ¬ M u) (h0 : ¬ M (0, 0)) : pWs o' G' u t V := by
  obtain ⟨E, h1, h2⟩ := h
  exact ⟨E, h1.fr hf hu h0, vInt.fr hf h0 h2⟩
/-! names -/
def insS (key : Wd) : List Wd → List Wd
  | [] => [key]
  | y :: t => if key = y then key :: t else if wlt key y then key :: y :: t else y :: insS key t
def eNs (p : Nat) (V : List Wd) : List En := V.map (fun w => (w, some p))
theorem eNs_ins {p : Nat} {key : Wd} : ∀ {V : List Wd}, insA key (some p) (eNs p V) = eNs p (insS key V)
  | [] => rfl
  | y :: V => by
    show (if key = y then _ else if wlt key y then _ else _) = eNs p (if key = y then _ else if wlt key y then _ else _)
    by_cases c1 : key = y
    · rw [if_pos c1, if_pos c1]
      rfl
    · rw [if_neg c1, if_neg c1]
      by_cases c2 : wlt key y = true
      · rw [if_pos c2, if_pos c2]
        rfl
      · rw [if_neg c2, if_neg c2]
        show (y, some p) :: insA key (some p) (eNs p V) = _
        rw [eNs_ins]
        rfl
theorem eNs_rm {p : Nat} {key : Wd} {V : List Wd} : rmA key (eNs p V) = eNs p (V.filter (fun w => w != key)) := by
  unfold rmA eNs
  rw [List.filter_map]
  rfl
theorem eNs_lk {p : Nat} {key : Wd} : ∀ {V : List Wd}, (lkA key (eNs p V)).join = if key ∈ V then some p else none
  | [] => rfl
  | y :: V => by
    show (if key = y then some (some p) else lkA key (eNs p V)).join = _
    by_cases c1 : key = y
    · rw [if_pos c1, if_pos (by rw [c1]; exact List.mem_cons_self)]
      rfl
    · rw [if_neg c1, eNs_lk]
      by_cases c2 : key ∈ V
      · rw [if_pos c2, if_pos (List.mem_cons_of_mem _ c2)]
      · rw [if_neg c2, if_neg (fun z => by rcases List.mem_cons.mp z with w | w; exact c1 w; exact c2 w)]
theorem eNs_fst {p : Nat} {V : List Wd} : (eNs p V).map Prod.fst = V := by
  unfold eNs
  rw [List.map_map]
  exact List.map_id V
/-- TreeSet a -/
def pNs (o : gO) (G : hG) (u : Nat × Nat) (a : Nat) (V : List Wd) : Prop := hC G a = some (17, true) ∧ o a = (0, 0) ∧ ∃ t, hR G a 0 = some t ∧ pMp o G u t (eNs (hK G 0) V)
theorem pNs.fr {M : Nat × Nat → Prop} {o o' : gO} {G G' : hG} {u : Nat × Nat} {a : Nat} {V : List Wd} (h : pNs o G u a V) (hf : gFr M o G o' G') (hu : ¬ M u) (h0 : ¬ M (0, 0)) : pNs o' G' u a V := by
  obtain ⟨h1, h2, t, h3, h4⟩ := h
  have s := hf.S h1 h2 h0
  refine ⟨hf.C h1, (hf.O h1).trans h2, t, s.R h3, ?_⟩
  rw [hf.2]
  exact h4.fr hf hu h0
section PNS
variable {o o' : gO} {G G' : hG} {u : Nat × Nat} {s a : Nat} {V : List Wd} {key : Wd}
theorem s_nsize {Q : hG → Int32 → Prop} (h : pNs o G u s V) (hQ : Q G (nI V.length)) : wJ4_size Q s G := by
  obtain ⟨h1, h2, t, h3, h4⟩ := h
  unfold wJ4_size
  refine ⟨hclt h1, hlet_i ⟨t, h3, hclt h4.c, s_msize h4 ?_⟩⟩
  rw [show (eNs (hK G 0) V).length = V.length from List.length_map ..]
  exact hQ
theorem s_nhas {Q : hG → Int32 → Prop} (h : pNs o G u s V) (hk : pW o G a key) (hQ : Q G (if key ∈ V then 1 else 0)) : wJ4_contains Q s (some a) G := by
  obtain ⟨h1, h2, t, h3, h4⟩ := h
  unfold wJ4_contains
  refine ⟨hclt h1, hlet_i ⟨t, h3, hclt h4.c, s_mhas h4 hk ?_⟩⟩
  rw [eNs_fst]
  refine ⟨?_, hQ⟩
  by_cases c : key ∈ V
  · rw [if_pos c]
    exact hft1
  · rw [if_neg c]
    exact hft0
theorem s_nadd {Q : hG → Int32 → Prop} (h : pNs o G u s V) (hu : u ≠ (0, 0)) (hl : V.length < 1000) (hk : pW o G a key) (hQ : ∀ o' G', pNs o' G' u s (insS key V) → gFr (gOnly u) o G o' G' → Q G' (if key ∈ V then 0 else 1)) : wJ4_add Q s (some a) G := by
  have h0 : ¬ gOnly u (0, 0) := fun z => hu z.symm
  obtain ⟨h1, h2, t, h3, h4⟩ := h
  unfold wJ4_add
  refine ⟨hclt h1, hlet_i ⟨t, h3, hclt h4.c, s_mput h4 hu (by rw [show (eNs (hK G 0) V).length = V.length from List.length_map ..]; exact hl) hk fun o' G' g1 g2 => ?_⟩⟩
  have s9 := g2.S h1 h2 h0
  have h' : pNs o' G' u s (insS key V) := ⟨g2.C h1, (g2.O h1).trans h2, t, s9.R h3, by rw [g2.2, ← eNs_ins]; exact g1⟩
  have hQ := hQ o' G' h' g2
  rw [eNs_lk]
  by_cases c : key ∈ V
  · rw [if_pos c] at hQ ⊢
    exact cm_some ⟨hft0, hQ⟩
  · rw [if_neg c] at hQ ⊢
    exact cm_none ⟨hft1, hQ⟩
theorem s_nrem {Q : hG → Int32 → Prop} (h : pNs o G u s V) (hu : u ≠ (0, 0)) (hk : pW o G a key) (hQ : ∀ G', pNs o G' u s (V.filter (fun w => w != key)) → gFr (gOnly u) o G o G' → Q G' (if key ∈ V then 1 else 0)) : wJ4_remove Q s (some a) G := by
  have h0 : ¬ gOnly u (0, 0) := fun z => hu z.symm
  obtain ⟨h1, h2, t, h3, h4⟩ := h
  unfold wJ4_remove
  refine ⟨hclt h1, hlet_i ⟨t, h3, hclt h4.c, s_mrem h4 hu hk fun G' g1 g2 => ?_⟩⟩
  have s9 := g2.S h1 h2 h0
  have h' : pNs o G' u s (V.filter (fun w => w != key)) := ⟨g2.C h1, (g2.O h1).trans h2, t, s9.R h3, by rw [g2.2, ← eNs_rm]; exact g1⟩
  have hQ := hQ G' h' g2
  rw [eNs_lk, g2.2]
  by_cases c : key ∈ V
  · rw [if_pos c] at hQ ⊢
    exact br_t rfl ⟨hft1, hQ⟩
  · rw [if_neg c] at hQ ⊢
    exact br_f (by simp) ⟨hft0, hQ⟩
end PNS
