/-! what is shown stands in the order of the entities -/
set_option maxRecDepth 100000
/-- strictly ascending within bounds -/
def sA (l : List Int) (a b : Int) : Prop := l.Pairwise (· < ·) ∧ ∀ i, i ∈ l → a ≤ i ∧ i < b
theorem sA.nil {a b : Int} : sA [] a b := ⟨List.Pairwise.nil, fun i hi => by cases hi⟩
theorem sA.mo {l : List Int} {a b a' b' : Int} (h : sA l a b) (ha : a' ≤ a) (hb : b ≤ b') : sA l a' b' := ⟨h.1, fun i hi => by have := h.2 i hi; omega⟩
theorem sA.app {l r : List Int} {a b c : Int} (h : sA l a b) (h2 : sA r b c) (hab : a ≤ b) (hbc : b ≤ c) : sA (l ++ r) a c := by
  refine ⟨List.pairwise_append.mpr ⟨h.1, h2.1, fun x hx y hy => ?_⟩, fun i hi => ?_⟩
  · have := h.2 x hx; have := h2.2 y hy; omega
  · rcases List.mem_append.mp hi with z | z
    · have := h.2 i z; omega
    · have := h2.2 i z; omega
def oA1 (o : Option (List Int)) (a b : Int) : Prop := match o with
  | none => True
  | some l => sA l a b
theorem shG_sA {alt : Bool} {pl : List Int → Bool} {P : Int → Int → Prop} {R : Int → List Int} {j e : Int} (hP : ∀ s m, P s m → s < m) (hR : ∀ s m, P s m → sA (R s) s m) : ∀ (ks : List Int) (m : Int) (s : List Int) (la p : Option (List Int)), chT P m ks e → j ≤ m → sA s j m → oA1 la j e → oA1 p j e →
    sA (shG alt pl (ks.map R) s la p).1 j e ∧ oA1 (shG alt pl (ks.map R) s la p).2.1 j e ∧ oA1 (shG alt pl (ks.map R) s la p).2.2 j e := by
  intro ks
  induction ks with
  | nil => intro m s la p hc hj hs hla hp; have z : m = e := hc; rw [z] at hs; exact ⟨hs, hla, hp⟩
  | cons k r ih =>
    intro m s la p hc hj hs hla hp
    obtain ⟨hk, m2, h1, h2⟩ := hc
    subst hk
    have hlt := hP k m2 h1
    have hle := chT_le hP r m2 e h2
    have hx := hR k m2 h1
    rw [List.map_cons]
    unfold shG
    split
    · exact ih m2 s la p h2 (by omega) (hs.mo (Int.le_refl _) (by omega)) hla hp
    · refine ih m2 _ _ _ h2 (by omega) ?_ (show sA (R k) j e from hx.mo (by omega) (by omega)) ?_
      · split
        · exact hs.mo (Int.le_refl _) (by omega)
        · exact hs.app hx hj (by omega)
      · split
        · show sA (R k) j e
          exact hx.mo (by omega) (by omega)
        · exact hp
theorem shF_sA {E : List Ev} : ∀ (n : Nat) (j e : Int), Tr E n j e → sA (shF E n j) j e := by
  intro n
  induction n with
  | zero => intro j e h; exact h.elim
  | succ n ih =>
    intro j e h
    obtain ⟨h1, h2⟩ := h
    have hs : sA (if evTx (en E j) = true then [j] else []) j (j + 1) := by
      split
      · exact ⟨List.pairwise_singleton .., fun i hi => by rw [List.mem_singleton.mp hi]; omega⟩
      · exact sA.nil
    have z := shG_sA (alt := decide (evTy (en E j) = ALTN)) (pl := plE E) (P := Tr E n) (R := shF E n) (j := j) (e := e) (fun s m hp => Tr_lt n s m hp) ih (kids E j) (j + 1) _ none none h2 (by omega) hs trivial trivial
    show sA (shO (evK (en E j)) (decide (evTy (en E j) = ALTN)) _) j e
    generalize shG (decide (evTy (en E j) = ALTN)) (plE E) ((kids E j).map (shF E n)) (if evTx (en E j) = true then [j] else []) none none = r at z
    unfold shO
    obtain ⟨z1, z2, z3⟩ := z
    split
    · cases hr : r.2.1 with
      | none => exact z1
      | some la =>
        rw [hr] at z2
        cases hr2 : r.2.2 with
        | none => exact z2
        | some p => rw [hr2] at z3; exact z3
    · exact z1
theorem ctS_sA {l : List Int} : sA (ctS l) 0 ((ptE l).length : Int) := shF_sA 9 0 _ ptE_tr.2.2
/-- what is left from a place on -/
def fro (l : List Int) (e : Int) : List Int := l.filter (fun i => decide (e ≤ i))
theorem fro_n {l : List Int} {e : Int} (h : e ∉ l) : fro l e = fro l (e + 1) := by
  unfold fro
  refine List.filter_congr (fun i hi => ?_)
  have : i ≠ e := fun z => h (by rw [← z]; exact hi)
  by_cases c : e ≤ i
  · rw [decide_eq_true c, decide_eq_true (by omega)]
  · rw [decide_eq_false c, decide_eq_false (by omega)]
theorem fro_y {e : Int} : ∀ {l : List Int}, l.Pairwise (· < ·) → e ∈ l → fro l e = e :: fro l (e + 1)
  | [], _, h => by cases h
  | x :: r, hp, h => by
    obtain ⟨h1, h2⟩ := List.pairwise_cons.mp hp
    rcases List.mem_cons.mp h with z | z
    · subst z
      have hn : e ∉ r := fun y => by have := h1 e y; omega
      have e1 : fro (e :: r) e = e :: fro r e := by unfold fro; exact List.filter_cons_of_pos (p := fun i => decide (e ≤ i)) (decide_eq_true (Int.le_refl e))
      have e2 : fro (e :: r) (e + 1) = fro r (e + 1) := by unfold fro; exact List.filter_cons_of_neg (by rw [decide_eq_true_iff]; omega)
      rw [e1, e2, fro_n hn]
    · have hx := h1 e z
      have e1 : fro (x :: r) e = fro r e := by unfold fro; exact List.filter_cons_of_neg (by rw [decide_eq_true_iff]; omega)
      have e2 : fro (x :: r) (e + 1) = fro r (e + 1) := by unfold fro; exact List.filter_cons_of_neg (by rw [decide_eq_true_iff]; omega)
      rw [e1, e2]
      exact fro_y h2 z
theorem fro_all {l : List Int} {a b : Int} (h : sA l a b) : fro l a = l ∧ fro l b = [] := by
  unfold fro
  refine ⟨List.filter_eq_self.mpr (fun i hi => decide_eq_true (h.2 i hi).1), List.filter_eq_nil_iff.mpr (fun i hi => ?_)⟩
  rw [decide_eq_true_iff]
  have := (h.2 i hi).2
  omega
theorem hgF_sA {E : List Ev} {sh : List Int} : sA (hgF E sh) 0 (E.length : Int) := by
  unfold hgF
  refine ⟨List.Pairwise.filter _ (List.pairwise_map.mpr (List.Pairwise.imp (fun {a b} (h : a < b) => Int.ofNat_lt.mpr h) List.pairwise_lt_range)), fun i hi => ?_⟩
  obtain ⟨k, hk, rfl⟩ := List.mem_map.mp (List.mem_filter.mp hi).1
  have := List.mem_range.mp hk
  show (0 : Int) ≤ (k : Int) ∧ (k : Int) < _
  omega
theorem hgF_mem {E : List Ev} {sh : List Int} {i : Int} (h : 0 ≤ i ∧ i < (E.length : Int)) : i ∈ hgF E sh ↔ hgP E sh i = true := by
  unfold hgF
  rw [List.mem_filter]
  refine ⟨fun z => z.2, fun z => ⟨?_, z⟩⟩
  exact List.mem_map.mpr ⟨i.toNat, List.mem_range.mpr (by omega), by show (i.toNat : Int) = i; omega⟩
