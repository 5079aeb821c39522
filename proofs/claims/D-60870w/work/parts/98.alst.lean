/-! 98.aa.lean.txt -/
/-! the twin: what its constant arrays hold; a mail and its lines -/
set_option maxRecDepth 100000
/-- the constant arrays -/
def CST (τ : TT) : Prop := ∀ q, q ∈ twC → ∀ (j : Nat) (v : Int), q.2[j]? = some v → τ.2 q.1 j = v
theorem twC_in : ∀ q, q ∈ twC → 1 ≤ q.1 ∧ q.1 ≤ twN := sorry
theorem cstR {b o : Int} {S : AS} {τ : TT} (hT : TR b S o τ) : CST τ := sorry
theorem cstC {y : MethodName} {cc : ByteArray} {nL : Nat} {ret : Option FieldType} {d : Nat} {P : RP} {As : Int → List AV} {τ : TT} (h : CST τ → Hid (TC y cc nL ret d P As τ)) : Hid (TC y cc nL ret d P As τ) := sorry
theorem cstJ {cc : ByteArray} {nL : Nat} {ret : Option FieldType} {d : Nat} {P : RP} {pc : Nat} {vs st : Int → List AV} {τ : TT} (h : CST τ → Hid (TJ cc nL ret d P pc vs st τ)) : Hid (TJ cc nL ret d P pc vs st τ) := sorry
/-- an array that holds a word -/
def WRD (τ : TT) (id : Int) (n : List Int) : Prop := ttg id = 104 ∧ tlen id = len n ∧ ∀ j, 0 ≤ j → j < len n → τ.2 id j = gt n j
theorem CST.wrd {τ : TT} (h : CST τ) {id : Int} {n : List Int} (hq : (id, n) ∈ twC) (h1 : ttg id = 104) (h2 : tlen id = len n) : WRD τ id n := sorry
theorem WRD.fr {τ τ' : TT} {id : Int} {n : List Int} (h : WRD τ id n) (e : τ'.2 id = τ.2 id) : WRD τ' id n := sorry
section PSM
variable {c : Int} {τ : TT} {Q : Int → TT → Prop}
theorem t_pIsBlank (hc : -2147483648 ≤ c ∧ c < 2147483648) (hQ : Q (if chBl c then 1 else 0) τ) : w_pIsBlank c τ Q := sorry
theorem t_pSmall (hc : -2147483000 ≤ c ∧ c < 2147483000) (hQ : Q (lowB c) τ) : w_pSmall c τ Q := sorry
theorem t_pIsName (hc : -2147483000 ≤ c ∧ c < 2147483000) (hQ : Q (if chNm c then 1 else 0) τ) : w_pIsName c τ Q := sorry
end PSM
/-- a mail that is read -/
def MLD (τ : TT) (m : List Int) : Prop := m = by8 (τ.2 121) 0 (τ.1 181) ∧ 0 ≤ τ.1 181 ∧ τ.1 181 ≤ 2000
section MLX
variable {τ τ' : TT} {m : List Int} {ls : List (List Int)}
theorem MLD.ln (h : MLD τ m) : len m = τ.1 181 := sorry
theorem MLD.rd (h : MLD τ m) {k : Int} (hk : 0 ≤ k ∧ k < len m) : gt m k = τ.2 121 k % 256 := sorry
theorem MLD.fr (h : MLD τ m) (h1 : τ'.1 181 = τ.1 181) (h2 : τ'.2 121 = τ.2 121) : MLD τ' m := by
  unfold MLD
  rw [h1, h2]
  exact h
theorem MLD.by (h : MLD τ m) : byt m := sorry
/-- the lines of the mail -/
def LNS (τ : TT) (m : List Int) (ls : List (List Int)) : Prop := MLD τ m ∧ τ.1 182 = lnW ls ∧ lnW ls ≤ 2000 ∧ ∀ (n : Nat) (x : List Int), ls[n]? = some x → 0 ≤ τ.2 122 n ∧ τ.2 122 n ≤ τ.2 123 n ∧ τ.2 123 n ≤ len m ∧ x = sub m (τ.2 122 n) (τ.2 123 n) ∧ (n + 1 < ls.length → τ.2 123 n < τ.2 122 (n + 1))
theorem LNS.fr (h : LNS τ m ls) (h1 : τ'.1 181 = τ.1 181) (h2 : τ'.2 121 = τ.2 121) (h3 : τ'.1 182 = τ.1 182) (h4 : τ'.2 122 = τ.2 122) (h5 : τ'.2 123 = τ.2 123) : LNS τ' m ls := sorry
theorem LNS.frF {sc ar : List Int} (h : LNS τ m ls) (hF : Fr τ τ' sc ar) (hs : ([181, 182].all fun k => !sc.contains k) = true := by rfl) (ha : ([121, 122, 123].all fun k => !ar.contains k) = true := by rfl) : LNS τ' m ls := sorry
/-- a line -/
def lin (ls : List (List Int)) (k : Int) : List Int := ls.getD k.toNat []
theorem LNS.at (h : LNS τ m ls) {k : Int} (hk : 0 ≤ k ∧ k < lnW ls) : 0 ≤ τ.2 122 k ∧ τ.2 122 k ≤ τ.2 123 k ∧ τ.2 123 k ≤ len m ∧ lin ls k = sub m (τ.2 122 k) (τ.2 123 k) ∧ len (lin ls k) = τ.2 123 k - τ.2 122 k := sorry
theorem LNS.nxt (h : LNS τ m ls) {k : Int} (hk : 0 ≤ k ∧ k + 1 < lnW ls) : τ.2 123 k < τ.2 122 (k + 1) := sorry
/-- a byte of a line -/
theorem LNS.ch (h : LNS τ m ls) {k i : Int} (hk : 0 ≤ k ∧ k < lnW ls) (hi : 0 ≤ i ∧ i < len (lin ls k)) : gt (lin ls k) i = τ.2 121 (τ.2 122 k + i) % 256 := sorry
theorem LNS.bt (h : LNS τ m ls) {k : Int} (hk : 0 ≤ k ∧ k < lnW ls) : byt (lin ls k) := by
  rw [(h.at hk).2.2.2.1]
  exact byt_sub h.1.by
theorem t_pSplit {Q : TT → Prop} (h : MLD τ m) (hQ : ∀ τ', Fr τ τ' [182] [122, 123] → LNS τ' m (lsG m 0) → Q τ') : w_pSplit τ Q := sorry
/-- whether a line is a field -/
abbrev clP (x : List Int) : Prop := 0 < scn hnB x 0 ∧ scn hnB x 0 < len x ∧ gt x (scn hnB x 0) = 58
def clB (x : List Int) : Bool := decide (clP x)
theorem t_pColon {k : Int} {Q : Int → TT → Prop} (h : LNS τ m ls) (hk : 0 ≤ k ∧ k < lnW ls) (hQ : Q (if clP (lin ls k) then τ.2 122 k + scn hnB (lin ls k) 0 else -1) τ) : w_pColon k τ Q := sorry
/-- a stretch of an array of bytes is a word -/
theorem t_pIsWord {a f t w : Int} {x n : List Int} {Q : Int → TT → Prop} (ha : ttg a = 101) (hf : 0 ≤ f ∧ f ≤ t ∧ t ≤ tlen a) (hx : len x = t - f) (hg : ∀ i, 0 ≤ i → i < len x → gt x i = τ.2 a (f + i) % 256) (hw : WRD τ w n) (hn : ∀ c, c ∈ n → 0 ≤ c ∧ c < 128) (hl : tlen a ≤ 1000000 ∧ len n ≤ 1000)
    (hQ : Q (if x.map lowB = n then 1 else 0) τ) : w_pIsWord a f t w (len n) τ Q := sorry
end MLX

/-! 98.ab.lean.txt -/
/-! the twin: heads, fields: plain law -/
set_option maxRecDepth 100000
/-- the name of a line that is a field, what stands behind the colon -/
def cnm (x : List Int) : List Int := (sub x 0 (scn hnB x 0)).map lowB
def cvl (x : List Int) : List Int := sub x (scn hnB x 0 + 1) (len x)
/-- the lines of a head -/
def hdX : List (List Int) → Bool → List (List Int)
  | [], _ => []
  | x :: r, b => if clP x then x :: hdX r true else if b = true ∧ x ≠ [] ∧ chBl (gt x 0) then x :: hdX r true else []
/-- lines up to a field -/
def ctV : List (List Int) → List Int
  | [] => []
  | x :: r => if clP x then [] else x ++ ctV r
/-- the value of a name among lines -/
def fdL : List (List Int) → List Int → Option (List Int)
  | [], _ => none
  | x :: r, n => if clP x ∧ cnm x = n then some (cvl x ++ ctV r) else fdL r n
theorem cl_nb {x : List Int} (h : clP x) : ¬ (x ≠ [] ∧ chBl (gt x 0)) := sorry
theorem fdF_app : ∀ (ps : List (List Int × List Int)) (q : List Int × List Int) (n : List Int), fdF (ps ++ [q]) n = match fdF ps n with
    | some w => some w
    | none => if q.1 = n then some q.2 else none
  | [], q, n => rfl
  | p :: r, q, n => by
    show (if p.1 = n then some p.2 else fdF (r ++ [q]) n) = match (if p.1 = n then some p.2 else fdF r n) with
      | some w => some w
      | none => if q.1 = n then some q.2 else none
    by_cases h : p.1 = n
    · rw [if_pos h, if_pos h]
    · rw [if_neg h, if_neg h]
      exact fdF_app r q n
theorem kpO_fd (nm : Option (List Int)) (v : List Int) (ps : List (List Int × List Int)) (n : List Int) : fdF (kpO nm v ps) n = match fdF ps n with
    | some w => some w
    | none => if nm = some n then some v else none := by
  cases nm with
  | none =>
    show fdF ps n = _
    cases fdF ps n with
    | none => exact (if_neg (by simp)).symm
    | some w => rfl
  | some q =>
    show fdF (if (fdF ps q).isSome = true then ps else ps ++ [(q, v)]) n = _
    by_cases h : (fdF ps q).isSome = true
    · rw [if_pos h]
      cases h2 : fdF ps n with
      | some w => rfl
      | none =>
        refine (if_neg fun z => ?_).symm
        rw [Option.some.inj z, h2] at h
        exact absurd h (by decide)
    · rw [if_neg h, fdF_app]
      cases h2 : fdF ps n with
      | some w => rfl
      | none =>
        show (if q = n then some v else none) = if some q = some n then some v else none
        by_cases z : q = n
        · rw [if_pos z, if_pos (by rw [z])]
        · rw [if_neg z, if_neg (fun y => z (Option.some.inj y))]
/-- the fields that a head gives, one by one -/
theorem hdR_fd : ∀ (L : List (List Int)) (k : Int) (nm : Option (List Int)) (v : List Int) (ps : List (List Int × List Int)) (n : List Int), fdF (hdR L k nm v ps).1 n = match fdF ps n with
    | some w => some w
    | none => if nm = some n then some (v ++ ctV (hdX L nm.isSome)) else fdL (hdX L nm.isSome) n
  | [], k, nm, v, ps, n => by
    show fdF (kpO nm v ps) n = _
    rw [kpO_fd]
    cases fdF ps n with
    | some w => rfl
    | none =>
      show (if nm = some n then some v else none) = if nm = some n then some (v ++ []) else none
      rw [List.append_nil]
  | x :: r, k, nm, v, ps, n => by
    have STOP : ¬ clP x → ¬ (nm.isSome = true ∧ x ≠ [] ∧ chBl (gt x 0)) → fdF (kpO nm v ps) n = match fdF ps n with
        | some w => some w
        | none => if nm = some n then some (v ++ ctV (hdX (x :: r) nm.isSome)) else fdL (hdX (x :: r) nm.isSome) n := fun h1 h2 => by
      have e : hdX (x :: r) nm.isSome = [] := by
        show (if clP x then _ else _) = _
        rw [if_neg h1, if_neg h2]
      rw [e, kpO_fd]
      cases fdF ps n with
      | some w => rfl
      | none =>
        show (if nm = some n then some v else none) = if nm = some n then some (v ++ []) else none
        rw [List.append_nil]
    show fdF (if nm.isSome = true ∧ x ≠ [] ∧ chBl (gt x 0) then _ else if clP x then _ else _ : List (List Int × List Int) × Int).1 n = _
    by_cases h1 : nm.isSome = true ∧ x ≠ [] ∧ chBl (gt x 0)
    · have hc : ¬ clP x := fun z => cl_nb z h1.2
      have e : hdX (x :: r) nm.isSome = x :: hdX r true := by
        show (if clP x then _ else _) = _
        rw [if_neg hc, if_pos h1]
      rw [if_pos h1, hdR_fd r, e, h1.1]
      cases fdF ps n with
      | some w => rfl
      | none =>
        show (if nm = some n then some (v ++ x ++ ctV (hdX r true)) else fdL (hdX r true) n) = if nm = some n then some (v ++ (if clP x then [] else x ++ ctV (hdX r true))) else (if clP x ∧ cnm x = n then _ else fdL (hdX r true) n)
        rw [if_neg hc, if_neg (show ¬ (clP x ∧ cnm x = n) from fun z => hc z.1), List.append_assoc]
    · rw [if_neg h1]
      by_cases h2 : clP x
      · have e : hdX (x :: r) nm.isSome = x :: hdX r true := by
          show (if clP x then _ else _) = _
          rw [if_pos h2]
        rw [if_pos h2, hdR_fd r, kpO_fd, e]
        cases fdF ps n with
        | some w => rfl
        | none =>
          show (match (if nm = some n then some v else none) with
            | some w => some w
            | none => if some (cnm x) = some n then some (cvl x ++ ctV (hdX r true)) else fdL (hdX r true) n) = if nm = some n then some (v ++ (if clP x then [] else x ++ ctV (hdX r true))) else (if clP x ∧ cnm x = n then some (cvl x ++ ctV (hdX r true)) else fdL (hdX r true) n)
          rw [if_pos h2, List.append_nil]
          by_cases h3 : nm = some n
          · rw [if_pos h3, if_pos h3]
          · rw [if_neg h3, if_neg h3]
            show (if some (cnm x) = some n then _ else _) = _
            by_cases h4 : cnm x = n
            · rw [if_pos (by rw [h4]), if_pos ⟨h2, h4⟩]
            · rw [if_neg (fun y => h4 (Option.some.inj y)), if_neg (fun y => h4 y.2)]
      · rw [if_neg h2]
        exact STOP h2 h1
/-- where the body begins -/
theorem hdR_bd : ∀ (L : List (List Int)) (k : Int) (nm : Option (List Int)) (v : List Int) (ps : List (List Int × List Int)), (hdR L k nm v ps).2 = k + lnW (hdX L nm.isSome) + (if (L.drop (hdX L nm.isSome).length).head? = some [] then 1 else 0) := sorry
/-- lines from one to another -/
def sx (ls : List (List Int)) (k t : Int) : List (List Int) := (ls.drop k.toNat).take (t - k).toNat
section SXX
variable {ls : List (List Int)} {k t e : Int}
theorem lin_get (h : 0 ≤ k ∧ k < lnW ls) : ls[k.toNat]? = some (lin ls k) := sorry
theorem sx_nil (h : t ≤ k) : sx ls k t = [] := sorry
theorem sx_cons (h : 0 ≤ k ∧ k < t ∧ t ≤ lnW ls) : sx ls k t = lin ls k :: sx ls (k + 1) t := sorry
theorem hdX_len : ∀ (L : List (List Int)) (b : Bool), (hdX L b).length ≤ L.length := sorry
theorem sx_len (h : 0 ≤ k ∧ k ≤ t ∧ t ≤ lnW ls) : lnW (sx ls k t) = t - k := sorry
/-- the lines of a head are the first ones -/
theorem hdX_sx : ∀ (N : Nat) (k : Int) (b : Bool), (t - k).toNat = N → 0 ≤ k → k ≤ t → t ≤ lnW ls → hdX (sx ls k t) b = sx ls k (k + lnW (hdX (sx ls k t) b)) := sorry
end SXX
theorem sub_cons {l : List Int} {i : Int} (h : 0 ≤ i ∧ i < len l) : sub l i (len l) = gt l i :: sub l (i + 1) (len l) := sorry
/-! 98.ac.lean.txt -/
/-! the twin: heads found, fields found -/
set_option maxRecDepth 100000
section PFH
variable {τ : TT} {m : List Int} {ls : List (List Int)} {e f t : Int}
theorem t_pFindHead {Q : TT → Prop} (h : LNS τ m ls) (he : 0 ≤ e ∧ e < 60) (h4 : τ.2 124 e = f) (h5 : τ.2 125 e = t) (hf : 0 ≤ f ∧ f ≤ t ∧ t ≤ lnW ls)
    (hQ : Q ((τ.a 126 e (f + lnW (hdX (sx ls f t) false))).a 127 e (enH ls f t).2)) : w_pFindHead e τ Q := sorry
/-- the value that was found -/
def VAL (τ : TT) (v : List Int) : Prop := v = by8 (τ.2 137) 0 (τ.1 205) ∧ 0 ≤ τ.1 205 ∧ τ.1 205 ≤ 2000
theorem VAL.ln {v : List Int} (h : VAL τ v) : len v = τ.1 205 := sorry
theorem VAL.rd {v : List Int} (h : VAL τ v) {k : Int} (hk : 0 ≤ k ∧ k < len v) : gt v k = τ.2 137 k % 256 := sorry
theorem VAL.fr {τ' : TT} {v : List Int} (h : VAL τ v) (h1 : τ'.1 205 = τ.1 205) (h2 : τ'.2 137 = τ.2 137) : VAL τ' v := by
  unfold VAL
  rw [h1, h2]
  exact h
theorem VAL.bt {v : List Int} (h : VAL τ v) : byt v := sorry
theorem t_pFind {w : Int} {n : List Int} {Q : Int → TT → Prop} (h : LNS τ m ls) (he : 0 ≤ e ∧ e < 60) (h4 : τ.2 124 e = f) (h6 : τ.2 126 e = t) (hf : 0 ≤ f ∧ f ≤ t ∧ t ≤ lnW ls) (hw : WRD τ w n) (hn : ∀ c, c ∈ n → 0 ≤ c ∧ c < 128) (hnl : len n ≤ 1000)
    (hQ0 : ∀ τ', Fr τ τ' [205] [137] → fdL (sx ls f t) n = none → VAL τ' [] → Q 0 τ') (hQ1 : ∀ τ' v, Fr τ τ' [205] [137] → fdL (sx ls f t) n = some v → VAL τ' v → Q 1 τ') : w_pFind e w (len n) τ Q := sorry
end PFH

/-! 98.ad.lean.txt -/
/-! the twin: items of a value -/
set_option maxRecDepth 100000
theorem sub_su {l : List Int} {b s i j : Int} (h : 0 ≤ b ∧ b ≤ s ∧ s ≤ len l) (hi : 0 ≤ i ∧ i ≤ j ∧ j ≤ s - b) : sub (sub l b s) i j = sub l (b + i) (b + j) := sorry
/-- behind what quotation marks hold -/
def qeF (l : List Int) (k : Int) : Int := if h : 0 ≤ k ∧ k < len l ∧ gt l k ≠ 34 then qeF l (if gt l k = 92 then k + 2 else k + 1) else k
termination_by (len l - k).toNat
decreasing_by split <;> omega
def ovF (l : List Int) (k : Int) : Int := if gt l k = 34 then (if qeF l (k + 1) < len l then qeF l (k + 1) + 1 else len l) else k + 1
theorem qeF_ge {l : List Int} : ∀ (N : Nat) (k : Int), (len l - k).toNat = N → k ≤ qeF l k := sorry
theorem ovF_in {l : List Int} {k : Int} (h : 0 ≤ k ∧ k < len l) : k < ovF l k ∧ ovF l k ≤ len l := sorry
theorem ou_q {l : List Int} {c : Int} : ∀ (N : Nat) (k : Int), (len l - k).toNat = N → 0 ≤ k → ouG l c 1 k = if qeF l k < len l then ouG l c 0 (qeF l k + 1) else qeF l k := sorry
theorem ouF_c {l : List Int} {c k : Int} (h : 0 ≤ k ∧ k < len l) (hc : gt l k = c) : ouF l k c = k := sorry
theorem ouF_e {l : List Int} {c k : Int} (h : len l ≤ k) : ouF l k c = len l := sorry
theorem ouF_s {l : List Int} {c k : Int} (h : 0 ≤ k ∧ k < len l) (hc : gt l k ≠ c) : ouF l k c = ouF l (ovF l k) c := sorry
section PIT
variable {τ : TT} {v : List Int}
theorem VAL.frF {τ' : TT} {sc ar : List Int} (h : VAL τ v) (hF : Fr τ τ' sc ar) (hs : sc.contains 205 = false := by rfl) (ha : ar.contains 137 = false := by rfl) : VAL τ' v := h.fr (hF.s 205 hs) (hF.a 137 ha)
theorem t_pTrim {b s : Int} {Q : TT → Prop} (h : VAL τ v) (hb : 0 ≤ b ∧ b ≤ s ∧ s ≤ len v)
    (hQ : ∀ τ' F T, Fr τ τ' [207, 208] [] → τ'.1 207 = F → τ'.1 208 = T → (b ≤ F ∧ F ≤ T ∧ T ≤ s) → sub v F T = trmL (sub v b s) → Q τ') : w_pTrim b s τ Q := sorry
theorem t_pOver {b s k : Int} {Q : Int → TT → Prop} (h : VAL τ v) (hb : 0 ≤ b ∧ b ≤ s ∧ s ≤ len v) (hk : 0 ≤ k ∧ k < s - b) (hQ : Q (b + ovF (sub v b s) k) τ) : w_pOver (b + k) s τ Q := sorry
/-- the items of a value -/
def ITM (τ : TT) (v : List Int) (its : List (List Int)) : Prop := τ.1 206 = lnW its ∧ ∀ (n : Nat) (x : List Int), its[n]? = some x → 0 ≤ τ.2 138 n ∧ τ.2 138 n ≤ τ.2 139 n ∧ τ.2 139 n ≤ len v ∧ x = sub v (τ.2 138 n) (τ.2 139 n)
theorem ITM.fr {τ' : TT} {its : List (List Int)} (h : ITM τ v its) (h1 : τ'.1 206 = τ.1 206) (h2 : τ'.2 138 = τ.2 138) (h3 : τ'.2 139 = τ.2 139) : ITM τ' v its := by
  unfold ITM
  rw [h1, h2, h3]
  exact h
theorem ITM.at {its : List (List Int)} (h : ITM τ v its) {k : Int} (hk : 0 ≤ k ∧ k < lnW its) : 0 ≤ τ.2 138 k ∧ τ.2 138 k ≤ τ.2 139 k ∧ τ.2 139 k ≤ len v ∧ lin its k = sub v (τ.2 138 k) (τ.2 139 k) ∧ len (lin its k) = τ.2 139 k - τ.2 138 k := sorry
theorem t_pItemize {Q : TT → Prop} (h : VAL τ v) (hQ : ∀ τ', Fr τ τ' [206, 207, 208] [138, 139] → ITM τ' v (vaG v 0) → Q τ') : w_pItemize τ Q := sorry
/-- what was got -/
def GOT (τ : TT) (g : List Int) : Prop := g = by8 (τ.2 140) 0 (τ.1 212) ∧ 0 ≤ τ.1 212 ∧ τ.1 212 ≤ 2000
theorem GOT.ln {g : List Int} (h : GOT τ g) : len g = τ.1 212 := sorry
theorem GOT.rd {g : List Int} (h : GOT τ g) {k : Int} (hk : 0 ≤ k ∧ k < len g) : gt g k = τ.2 140 k % 256 := sorry
theorem GOT.fr {τ' : TT} {g : List Int} (h : GOT τ g) (h1 : τ'.1 212 = τ.1 212) (h2 : τ'.2 140 = τ.2 140) : GOT τ' g := by
  unfold GOT
  rw [h1, h2]
  exact h
theorem GOT.nil {x : Int} : GOT (τ.s 212 0) [] := sorry
/-- one byte more -/
theorem GOT.put {g : List Int} {x y : Int} (h : GOT τ g) (hl : len g < 2000) (hy : x % 256 = y) : GOT ((τ.a 140 (τ.1 212) x).s 212 (τ.1 212 + 1)) (g ++ [y]) := sorry
theorem t_pNothing {Q : TT → Prop} (hQ : Q (τ.s 212 0)) : w_pNothing τ Q := s_pNothing hQ
theorem t_pKeep {b s : Int} {lo : Int} {Q : TT → Prop} (h : VAL τ v) (hb : 0 ≤ b ∧ b ≤ s ∧ s ≤ len v) (hlo : lo = 0 ∨ lo = 1) (hQ : ∀ τ', Fr τ τ' [212] [140] → GOT τ' (if lo = 0 then sub v b s else (sub v b s).map lowB) → Q τ') : w_pKeep b s lo τ Q := sorry
end PIT

/-! 98.ae.lean.txt -/
/-! the twin: parameters, types -/
set_option maxRecDepth 100000
/-- what a value is, or nothing -/
def opV : Option (List Int) → List Int
  | some v => v
  | none => []
theorem vlF_op (ps : List (List Int × List Int)) (n : List Int) : vlF ps n = opV (fdF ps n) := by
  unfold vlF
  cases fdF ps n <;> rfl
/-- a parameter among items -/
def paL : List (List Int) → List Int → Option (List Int)
  | [], _ => none
  | it :: r, n => if ¬ ouF it 0 61 = len it ∧ paN it = n then some (paV it) else paL r n
theorem paF_fd : ∀ (its : List (List Int)) (ps : List (List Int × List Int)) (n : List Int), fdF (its.foldl paF ps) n = match fdF ps n with
    | some w => some w
    | none => paL its n
  | [], ps, n => by
    show fdF ps n = _
    cases fdF ps n <;> rfl
  | it :: r, ps, n => by
    show fdF (r.foldl paF (paF ps it)) n = _
    rw [paF_fd r]
    have e : fdF (paF ps it) n = match fdF ps n with
        | some w => some w
        | none => if ¬ ouF it 0 61 = len it ∧ paN it = n then some (paV it) else none := by
      unfold paF
      by_cases h1 : ouF it 0 61 = len it
      · rw [if_pos h1]
        cases fdF ps n with
        | some w => rfl
        | none => exact (if_neg (fun z => z.1 h1)).symm
      · rw [if_neg h1]
        by_cases h2 : (fdF ps (paN it)).isSome = true
        · rw [if_pos h2]
          cases h3 : fdF ps n with
          | some w => rfl
          | none =>
            refine (if_neg fun z => ?_).symm
            rw [z.2, h3] at h2
            exact absurd h2 (by decide)
        · rw [if_neg h2, fdF_app]
          cases fdF ps n with
          | some w => rfl
          | none =>
            show (if paN it = n then some (paV it) else none) = _
            by_cases z : paN it = n
            · rw [if_pos z, if_pos ⟨h1, z⟩]
            · rw [if_neg z, if_neg (fun y => z y.2)]
    rw [e]
    cases fdF ps n with
    | some w => rfl
    | none =>
      show (match (if ¬ ouF it 0 61 = len it ∧ paN it = n then some (paV it) else none) with
        | some w => some w
        | none => paL r n) = if ¬ ouF it 0 61 = len it ∧ paN it = n then some (paV it) else paL r n
      by_cases z : ¬ ouF it 0 61 = len it ∧ paN it = n
      · rw [if_pos z, if_pos z]
      · rw [if_neg z, if_neg z]
/-- the items behind the first one -/
theorem vaP_L (v n : List Int) : fdF (vaP v) n = paL (vaG v 0).tail n := sorry
theorem vaG_0 (v : List Int) : ∃ r, vaG v 0 = vaH v :: r := sorry
section PPX
variable {τ : TT} {v m : List Int} {ls : List (List Int)} {e f t : Int}
theorem t_pUnquote {F T : Int} {Q : TT → Prop} (h : VAL τ v) (e1 : τ.1 207 = F) (e2 : τ.1 208 = T) (hb : 0 ≤ F ∧ F ≤ T ∧ T ≤ len v) (hQ : ∀ τ', Fr τ τ' [212] [140] → GOT τ' (uqF (sub v F T)) → Q τ') : w_pUnquote τ Q := sorry
theorem t_pParameterOf {w : Int} {n : List Int} {Q : Int → TT → Prop} (h : VAL τ v) (hw : WRD τ w n) (hwr : w < 121) (hn : ∀ c, c ∈ n → 0 ≤ c ∧ c < 128) (hnl : len n ≤ 1000)
    (hQ0 : ∀ τ', Fr τ τ' [206, 207, 208, 212] [138, 139, 140] → fdF (vaP v) n = none → GOT τ' [] → Q 0 τ') (hQ1 : ∀ τ' g, Fr τ τ' [206, 207, 208, 212] [138, 139, 140] → fdF (vaP v) n = some g → GOT τ' g → Q 1 τ') : w_pParameterOf w (len n) τ Q := sorry
theorem t_pFirstItem {w : Int} {n : List Int} {Q : TT → Prop} (h : LNS τ m ls) (he : 0 ≤ e ∧ e < 60) (h4 : τ.2 124 e = f) (h6 : τ.2 126 e = t) (hf : 0 ≤ f ∧ f ≤ t ∧ t ≤ lnW ls) (hw : WRD τ w n) (hn : ∀ c, c ∈ n → 0 ≤ c ∧ c < 128) (hnl : len n ≤ 1000)
    (hQ : ∀ τ', Fr τ τ' [205, 206, 207, 208, 212] [137, 138, 139, 140] → GOT τ' ((vaH (opV (fdL (sx ls f t) n))).map lowB) → Q τ') : w_pFirstItem e w τ Q := sorry
theorem t_pIsGot {w : Int} {g n : List Int} {Q : Int → TT → Prop} (h : GOT τ g) (hw : WRD τ w n) (hn : ∀ c, c ∈ n → 0 ≤ c ∧ c < 128) (hnl : len n ≤ 1000) (hQ : Q (if g.map lowB = n then 1 else 0) τ) : w_pIsGot w τ Q := sorry
theorem t_pBegins {w : Int} {g n : List Int} {Q : Int → TT → Prop} (h : GOT τ g) (hw : WRD τ w n) (hn : ∀ c, c ∈ n → 0 ≤ c ∧ c < 128) (hnl : len n ≤ 1000) (hQ : Q (if len n ≤ len g ∧ (sub g 0 (len n)).map lowB = n then 1 else 0) τ) : w_pBegins w τ Q := sorry
theorem t_pIsType {g : List Int} {Q : Int → TT → Prop} (h : GOT τ g) (hQ : Q (if tyB g = true then 1 else 0) τ) : w_pIsType τ Q := sorry
theorem t_pSet {w : Int} {n : List Int} {Q : TT → Prop} (hw : WRD τ w n) (hn : ∀ c, c ∈ n → 0 ≤ c ∧ c < 128) (hnl : len n ≤ 1000) (hwr : w < 140) (hQ : ∀ τ', Fr τ τ' [212] [140] → GOT τ' n → Q τ') : w_pSet w τ Q := sorry
end PPX

/-! 98.af.lean.txt -/
/-! the twin: types and names of entities -/
set_option maxRecDepth 100000
theorem lowB_2 (c : Int) : lowB (lowB c) = lowB c := sorry
theorem low_2 (l : List Int) : (l.map lowB).map lowB = l.map lowB := sorry
/-- an entity's head and place -/
def ENH (τ : TT) (ls : List (List Int)) (k : Int) (v : Ev) : Prop := τ.2 124 k = evF v ∧ τ.2 125 k = evT v ∧ τ.2 126 k = evF v + lnW (hdX (sx ls (evF v) (evT v)) false) ∧ τ.2 127 k = evB v ∧ τ.2 128 k = evP v ∧ τ.2 129 k = evDp v ∧ (0 ≤ evF v ∧ evF v ≤ evT v ∧ evT v ≤ lnW ls) ∧ evH v = (enH ls (evF v) (evT v)).1 ∧ evB v = (enH ls (evF v) (evT v)).2 ∧ (0 ≤ k ∧ k < 60)
section ENX
variable {τ τ' : TT} {m : List Int} {ls : List (List Int)} {k : Int} {v u : Ev}
theorem ENH.frF {sc ar : List Int} (h : ENH τ ls k v) (hF : Fr τ τ' sc ar) (ha : ([124, 125, 126, 127, 128, 129].all fun k => !ar.contains k) = true := by rfl) : ENH τ' ls k v := sorry
theorem hd_le (h : 0 ≤ evF v ∧ evF v ≤ evT v ∧ evT v ≤ lnW ls) : evF v + lnW (hdX (sx ls (evF v) (evT v)) false) ≤ evT v := sorry
theorem ENH.fd (h : ENH τ ls k v) (n : List Int) : fdF (evH v) n = fdL (sx ls (evF v) (τ.2 126 k)) n := sorry
theorem ENH.t_find {w : Int} {n : List Int} {Q : Int → TT → Prop} (h : ENH τ ls k v) (hL : LNS τ m ls) (hw : WRD τ w n) (hn : ∀ c, c ∈ n → 0 ≤ c ∧ c < 128) (hnl : len n ≤ 1000)
    (hQ0 : ∀ τ', Fr τ τ' [205] [137] → fdF (evH v) n = none → VAL τ' [] → Q 0 τ') (hQ1 : ∀ τ' x, Fr τ τ' [205] [137] → fdF (evH v) n = some x → VAL τ' x → Q 1 τ') : w_pFind k w (len n) τ Q := sorry
theorem ENH.t_item {w : Int} {n : List Int} {Q : TT → Prop} (h : ENH τ ls k v) (hL : LNS τ m ls) (hw : WRD τ w n) (hn : ∀ c, c ∈ n → 0 ≤ c ∧ c < 128) (hnl : len n ≤ 1000)
    (hQ : ∀ τ', Fr τ τ' [205, 206, 207, 208, 212] [137, 138, 139, 140] → GOT τ' ((vaH (vlF (evH v) n)).map lowB) → Q τ') : w_pFirstItem k w τ Q := sorry
theorem ascT {n : List Int} (h : (n.all fun c => decide (0 ≤ c ∧ c < 128)) = true) : ∀ c, c ∈ n → 0 ≤ c ∧ c < 128 := sorry
theorem tyF_dig {t : List Int} {g : Bool} : tyF t g = DIG ↔ t = DIG := sorry
/-- what is around an entity -/
def ARO (τ : TT) (ls : List (List Int)) (v : Ev) : Prop := (evP v = -1 ∧ evG v = false) ∨ ∃ u, 0 ≤ evP v ∧ ENH τ ls (evP v) u ∧ τ.2 130 (evP v) = evK u ∧ evG v = evD u
theorem ARO.frF {sc ar : List Int} (h : ARO τ ls v) (hF : Fr τ τ' sc ar) (ha : ([124, 125, 126, 127, 128, 129, 130].all fun k => !ar.contains k) = true := by rfl) : ARO τ' ls v := sorry
theorem t_pType {Q : TT → Prop} (h : ENH τ ls k v) (hL : LNS τ m ls) (ha : ARO τ ls v) (hQ : ∀ τ', Fr τ τ' [205, 206, 207, 208, 212] [137, 138, 139, 140] → GOT τ' (evTy v) → Q τ') : w_pType k τ Q := sorry
theorem t_pIsHung {Q : Int → TT → Prop} (h : ENH τ ls k v) (hL : LNS τ m ls) (hQ : ∀ τ', Fr τ τ' [205, 206, 207, 208, 212] [137, 138, 139, 140] → Q (if enHg (evH v) = true then 1 else 0) τ') : w_pIsHung k τ Q := sorry
theorem t_pCalled {Q : TT → Prop} (h : ENH τ ls k v) (hL : LNS τ m ls) (hQ : ∀ τ', Fr τ τ' [205, 206, 207, 208, 212] [137, 138, 139, 140] → GOT τ' (enNm (evH v)) → Q τ') : w_pCalled k τ Q := sorry
end ENX

/-! 98.ag.lean.txt -/
/-! the twin: marks, parts, kinds of entities -/
set_option maxRecDepth 100000
/-- where lines stand in a mail -/
def posF (τ : TT) (m : List Int) (ls : List (List Int)) (l : Int) : Int := if l < lnW ls then τ.2 122 l else len m + 1
theorem LNS.pos {τ : TT} {m : List Int} {ls : List (List Int)} (h : LNS τ m ls) {l : Int} (hl : 0 ≤ l ∧ l < lnW ls) : posF τ m ls l + len (lin ls l) + 1 ≤ posF τ m ls (l + 1) := sorry
/-- parts take room -/
def psWt (P : Int → Int) : List (Int × Int) → Int
  | [] => 0
  | r :: q => (P r.2 - P r.1) + 4 + psWt P q
theorem psWt_app (P : Int → Int) : ∀ (a b : List (Int × Int)), psWt P (a ++ b) = psWt P a + psWt P b := sorry
theorem mkB_len {mk x : List Int} (h : mkB mk x = true) : len mk ≤ len x := sorry
theorem ptG_w {ls : List (List Int)} {mk : List Int} {t : Int} {P : Int → Int} (hP : ∀ l, 0 ≤ l → l < lnW ls → P l + len (lin ls l) + 1 ≤ P (l + 1)) (hm : 3 ≤ len mk) (ht : t ≤ lnW ls) :
    ∀ (N : Nat) (k q : Int), (t - k).toNat = N → 0 ≤ k → k ≤ t → q ≤ k → (0 ≤ q → psWt P (ptG mk (sx ls k t) k q) ≤ P t - P q + 4) ∧ (q < 0 → psWt P (ptG mk (sx ls k t) k q) ≤ P t - P k) ∧ (0 ≤ q → P q ≤ P k → True) := sorry
theorem pA_iff {x m : List Int} : pAtB x m 0 = true ↔ len m ≤ len x ∧ ∀ i, 0 ≤ i → i < len m → gt x i = gt m i := sorry
theorem gt_apLt {a b : List Int} {i : Int} (h : 0 ≤ i ∧ i < len a) : gt (a ++ b) i = gt a i := sorry
theorem gt_apRt {a b : List Int} {i : Int} (h : 0 ≤ i) : gt (a ++ b) (len a + i) = gt b i := sorry
/-- the boundary that is looked for -/
def MRK (τ : TT) (b : List Int) : Prop := b = by8 (τ.2 141) 0 (τ.1 214) ∧ 0 ≤ τ.1 214 ∧ τ.1 214 ≤ 2000
section MRX
variable {τ τ' : TT} {m b : List Int} {ls : List (List Int)} {k : Int} {v : Ev}
theorem MRK.ln (h : MRK τ b) : len b = τ.1 214 := sorry
theorem MRK.rd (h : MRK τ b) {k : Int} (hk : 0 ≤ k ∧ k < len b) : gt b k = τ.2 141 k % 256 := sorry
theorem MRK.fr (h : MRK τ b) (h1 : τ'.1 214 = τ.1 214) (h2 : τ'.2 141 = τ.2 141) : MRK τ' b := by
  unfold MRK
  rw [h1, h2]
  exact h
theorem t_pMarked {l : Int} {Q : Int → TT → Prop} (h : LNS τ m ls) (hM : MRK τ b) (hb : 1 ≤ len b ∧ len b ≤ 70) (hl : 0 ≤ l ∧ l < lnW ls)
    (hQ : Q (if mkB (([45, 45] ++ b) ++ [45, 45]) (lin ls l) = true then 2 else if mkB ([45, 45] ++ b) (lin ls l) = true then 1 else 0) τ) : w_pMarked l τ Q := sorry
end MRX

/-! 98.ah.lean.txt -/
/-! the twin: parts of an entity, its kind -/
set_option maxRecDepth 100000
theorem hd_bd {ls : List (List Int)} {f t : Int} (h : 0 ≤ f ∧ f ≤ t ∧ t ≤ lnW ls) : f ≤ (enH ls f t).2 ∧ (enH ls f t).2 ≤ t := sorry
theorem ptG_in {ls : List (List Int)} {mk : List Int} {t : Int} (ht : t ≤ lnW ls) : ∀ (N : Nat) (k q : Int), (t - k).toNat = N → 0 ≤ k → k ≤ t → q ≤ k → ∀ r, r ∈ ptG mk (sx ls k t) k q → 0 ≤ r.1 ∧ r.1 ≤ r.2 ∧ r.2 ≤ t ∧ (r.1 = q ∨ k < r.1) := sorry
theorem posF_mono {τ : TT} {m : List Int} {ls : List (List Int)} (h : LNS τ m ls) : ∀ (N : Nat) (a b : Int), (b - a).toNat = N → 0 ≤ a → a ≤ b → b ≤ lnW ls → posF τ m ls a ≤ posF τ m ls b := sorry
theorem psWt_len {P : Int → Int} : ∀ (ps : List (Int × Int)), (∀ r, r ∈ ps → P r.1 ≤ P r.2) → 4 * lnW ps ≤ psWt P ps := sorry
/-- the parts that were found -/
def PTS (τ : TT) (ps : List (Int × Int)) : Prop := τ.1 201 = lnW ps ∧ ∀ (n : Nat) (r : Int × Int), ps[n]? = some r → τ.2 135 n = r.1 ∧ τ.2 136 n = r.2
/-- what is still to be looked at, the next one first -/
def TSK (τ : TT) (L : List (Int × Int × Int)) : Prop := τ.1 197 = lnW L ∧ ∀ (n : Nat) (r : Int × Int × Int), L.reverse[n]? = some r → τ.2 132 n = r.1 ∧ τ.2 133 n = r.2.1 ∧ τ.2 134 n = r.2.2
section PLX
variable {τ τ' : TT} {m b : List Int} {ls : List (List Int)} {k f t : Int} {v : Ev} {ps : List (Int × Int)} {L : List (Int × Int × Int)}
theorem PTS.fr (h : PTS τ ps) (h1 : τ'.1 201 = τ.1 201) (h2 : τ'.2 135 = τ.2 135) (h3 : τ'.2 136 = τ.2 136) : PTS τ' ps := by
  unfold PTS
  rw [h1, h2, h3]
  exact h
theorem TSK.fr (h : TSK τ L) (h1 : τ'.1 197 = τ.1 197) (h2 : τ'.2 132 = τ.2 132) (h3 : τ'.2 133 = τ.2 133) (h4 : τ'.2 134 = τ.2 134) : TSK τ' L := by
  unfold TSK
  rw [h1, h2, h3, h4]
  exact h
theorem t_pAdd {Q : TT → Prop} (h : PTS τ ps) (hl : lnW ps < 520) (hf : -2147483648 ≤ f ∧ f < 2147483648) (ht : -2147483648 ≤ t ∧ t < 2147483648) (hQ : ∀ τ', Fr τ τ' [201] [135, 136] → PTS τ' (ps ++ [(f, t)]) → Q τ') : w_pAdd f t τ Q := sorry
theorem t_pPush {i : Int} {Q : TT → Prop} (h : TSK τ L) (hl : lnW L < 520) (hf : -2147483648 ≤ f ∧ f < 2147483648) (ht : -2147483648 ≤ t ∧ t < 2147483648) (hi : -2147483648 ≤ i ∧ i < 2147483648) (hQ : ∀ τ', Fr τ τ' [197] [132, 133, 134] → TSK τ' ((f, t, i) :: L) → Q τ') : w_pPush f t i τ Q := sorry
theorem t_pFindParts {Q : TT → Prop} (h : ENH τ ls k v) (hL : LNS τ m ls) (hM : MRK τ b) (hb : 1 ≤ len b ∧ len b ≤ 70)
    (hQ : ∀ τ', Fr τ τ' [201] [135, 136] → PTS τ' (ptG ([45, 45] ++ b) (sx ls (evB v) (evT v)) (evB v) (-1)) → Q τ') : w_pFindParts k τ Q := sorry
theorem low_ty {g : Bool} {t : List Int} (h : t.map lowB = t) : (tyF t g).map lowB = tyF t g := sorry
theorem evTy_low : (evTy v).map lowB = evTy v := low_ty (low_2 _)
theorem t_pIsMulti {Q : Int → TT → Prop} (h : ENH τ ls k v) (hL : LNS τ m ls) (ha : ARO τ ls v)
    (hQ0 : ∀ τ', Fr τ τ' [205, 206, 207, 208, 212, 214] [137, 138, 139, 140, 141] → ¬ (pAtB (evTy v) MUL 0 = true ∧ evBd v ≠ [] ∧ len (evBd v) ≤ 70) → Q 0 τ') (hQ1 : ∀ τ', Fr τ τ' [205, 206, 207, 208, 212, 214] [137, 138, 139, 140, 141] → pAtB (evTy v) MUL 0 = true ∧ evBd v ≠ [] ∧ len (evBd v) ≤ 70 → MRK τ' (evBd v) → Q 1 τ') : w_pIsMulti k τ Q := sorry
theorem t_pIsEnclosed {Q : Int → TT → Prop} (h : ENH τ ls k v) (hL : LNS τ m ls) (ha : ARO τ ls v)
    (hQ : ∀ τ', Fr τ τ' [205, 206, 207, 208, 212] [137, 138, 139, 140] → Q (if evTy v = RFC ∧ plC (enCd (evH v)) = true then 1 else 0) τ') : w_pIsEnclosed k τ Q := sorry
end PLX

/-! 98.ai.lean.txt -/
/-! the twin: an entity looked at, all entities -/
set_option maxRecDepth 100000
/-- what is in an entity, to be looked at -/
def chTk (ls : List (List Int)) (v : Ev) (k : Int) : List (Int × Int × Int) :=
  if evK v = 2 then [(evB v, evT v, k)] else if evK v = 1 then (ptG ([45, 45] ++ evBd v) (sx ls (evB v) (evT v)) (evB v) (-1)).map (fun r => (r.1, r.2, k)) else []
section LKX
variable {τ τ' : TT} {m : List Int} {ls : List (List Int)} {k : Int} {v : Ev}
theorem ENH.ix (h : ENH τ ls k v) (h1 : τ'.2 124 k = τ.2 124 k) (h2 : τ'.2 125 k = τ.2 125 k) (h3 : τ'.2 126 k = τ.2 126 k) (h4 : τ'.2 127 k = τ.2 127 k) (h5 : τ'.2 128 k = τ.2 128 k) (h6 : τ'.2 129 k = τ.2 129 k) : ENH τ' ls k v := sorry
theorem ARO.ix {p : Int} (h : ARO τ ls v) (hp : evP v ≠ p) (hs : ∀ i, i = 124 ∨ i = 125 ∨ i = 126 ∨ i = 127 ∨ i = 128 ∨ i = 129 ∨ i = 130 → ∀ j, j ≠ p → τ'.2 i j = τ.2 i j) : ARO τ' ls v := sorry
theorem t_pLook {L : List (Int × Int × Int)} {Q : TT → Prop} (hL : LNS τ m ls) (hk : 0 ≤ k ∧ k < 60) (h1 : τ.2 124 k = evF v) (h2 : τ.2 125 k = evT v) (h5 : τ.2 128 k = evP v) (h6 : τ.2 129 k = evDp v) (h7 : 0 ≤ evF v ∧ evF v ≤ evT v ∧ evT v ≤ lnW ls) (h8 : evH v = (enH ls (evF v) (evT v)).1) (h9 : evB v = (enH ls (evF v) (evT v)).2)
    (ha : ARO τ ls v) (hpk : evP v ≠ k) (hdp : 0 ≤ evDp v ∧ evDp v ≤ 8) (hT : TSK τ L) (hc : lnW (chTk ls v k) + lnW L < 520)
    (hQ : ∀ τ', Fr τ τ' [197, 201, 205, 206, 207, 208, 212, 214] [126, 127, 130, 132, 133, 134, 135, 136, 137, 138, 139, 140, 141] → (∀ i, i = 126 ∨ i = 127 ∨ i = 130 → ∀ j, j ≠ k → τ'.2 i j = τ.2 i j) → ENH τ' ls k v → τ'.2 130 k = evK v → TSK τ' (chTk ls v k ++ L) → Q τ') : w_pLook k τ Q := sorry
end LKX
/-- depth and digest of what is to be looked at -/
def dpT (E : List Ev) (r : Int × Int × Int) : Int := if r.2.2 = -1 then 0 else evDp (en E r.2.2) + 1
def gdT (E : List Ev) (r : Int × Int × Int) : Bool := if r.2.2 = -1 then false else evD (en E r.2.2)
/-- one after the other -/
def rnT (ls : List (List Int)) (L : List (Int × Int × Int)) (E : List Ev) : List Ev := L.foldl (fun E r => bgF ls (9 - dpT E r).toNat E r.2.2 (dpT E r) (gdT E r) r.1 r.2.1) E
section RNT
variable {ls : List (List Int)}
theorem rnT_app (A B : List (Int × Int × Int)) (E : List Ev) : rnT ls (A ++ B) E = rnT ls B (rnT ls A E) := List.foldl_append
theorem en_app {E y : List Ev} {k : Int} (h : 0 ≤ k ∧ k < lnW E) : en (E ++ y) k = en E k := sorry
theorem en_last {E : List Ev} {v : Ev} : en (E ++ [v]) (lnW E) = v := sorry
/-- children of a known parent, whose number is below -/
theorem rnT_ch {me dp : Int} {gd : Bool} : ∀ (ps : List (Int × Int)) (E : List Ev), 0 ≤ me → me < lnW E → evDp (en E me) = dp → evD (en E me) = gd → 0 ≤ dp → dp ≤ 8 →
    rnT ls (ps.map (fun r => (r.1, r.2, me))) E = ps.foldl (fun e r => bgF ls (8 - dp).toNat e me (dp + 1) gd r.1 r.2) E := sorry
/-- the next one is looked at -/
theorem rnT_s {r : Int × Int × Int} {L : List (Int × Int × Int)} {E : List Ev} (hd : 0 ≤ dpT E r ∧ dpT E r ≤ 8) : rnT ls (r :: L) E = if 60 ≤ E.length then rnT ls L E else
    rnT ls (chTk ls (evN ls r.2.2 (dpT E r) (gdT E r) r.1 r.2.1) (lnW E) ++ L) (E ++ [evN ls r.2.2 (dpT E r) (gdT E r) r.1 r.2.1]) := sorry
end RNT

/-! 98.aj.lean.txt -/
/-! the twin: all entities of a mail -/
set_option maxRecDepth 100000
/-- where an entity stands in what is around it -/
def EPD (E : List Ev) (k : Int) : Prop := (evP (en E k) = -1 ∧ evG (en E k) = false ∧ evDp (en E k) = 0) ∨ (0 ≤ evP (en E k) ∧ evP (en E k) < k ∧ evG (en E k) = evD (en E (evP (en E k))) ∧ evDp (en E k) = evDp (en E (evP (en E k))) + 1 ∧ evDp (en E (evP (en E k))) < 8 ∧ evK (en E (evP (en E k))) ≠ 0)
/-- all entities that were found -/
def ENS (τ : TT) (ls : List (List Int)) (E : List Ev) : Prop := τ.1 185 = lnW E ∧ lnW E ≤ 60 ∧ ∀ k, 0 ≤ k → k < lnW E → ENH τ ls k (en E k) ∧ τ.2 130 k = evK (en E k) ∧ EPD E k ∧ (0 ≤ evDp (en E k) ∧ evDp (en E k) ≤ 8)
/-- what is to be looked at is in order -/
def tkO (ls : List (List Int)) (E : List Ev) (L : List (Int × Int × Int)) : Prop := ∀ r, r ∈ L → 0 ≤ r.1 ∧ r.1 ≤ r.2.1 ∧ r.2.1 ≤ lnW ls ∧ (r.2.2 = -1 ∨ 0 ≤ r.2.2 ∧ r.2.2 < lnW E ∧ evDp (en E r.2.2) < 8 ∧ evK (en E r.2.2) ≠ 0)
def tkW (P : Int → Int) : List (Int × Int × Int) → Int
  | [] => 0
  | r :: q => (P r.2.1 - P r.1) + 4 + tkW P q
theorem tkW_app (P : Int → Int) : ∀ (a b : List (Int × Int × Int)), tkW P (a ++ b) = tkW P a + tkW P b := sorry
theorem tkW_map (P : Int → Int) (k : Int) : ∀ (ps : List (Int × Int)), tkW P (ps.map (fun r => (r.1, r.2, k))) = psWt P ps := sorry
theorem tkW_len {P : Int → Int} : ∀ (L : List (Int × Int × Int)), (∀ r, r ∈ L → P r.1 ≤ P r.2.1) → 4 * lnW L ≤ tkW P L := sorry
section BLX
variable {τ τ' : TT} {m : List Int} {ls : List (List Int)} {E : List Ev}
theorem ENS.frF {sc ar : List Int} (h : ENS τ ls E) (hF : Fr τ τ' sc ar) (hs : sc.contains 185 = false := by rfl) (ha : ([124, 125, 126, 127, 128, 129, 130].all fun k => !ar.contains k) = true := by rfl) : ENS τ' ls E := sorry
theorem ENS.aro (h : ENS τ ls E) {k : Int} (hk : 0 ≤ k ∧ k < lnW E) : ARO τ ls (en E k) := sorry
theorem evK_8 {v : Ev} (h : evK v ≠ 0) : evDp v ≠ 8 := sorry
theorem chTk_w {v : Ev} {k : Int} (hL : LNS τ m ls) (h7 : 0 ≤ evF v ∧ evF v ≤ evT v ∧ evT v ≤ lnW ls) (h9 : evB v = (enH ls (evF v) (evT v)).2) :
    tkW (posF τ m ls) (chTk ls v k) ≤ posF τ m ls (evT v) - posF τ m ls (evF v) + 4 ∧ ∀ r, r ∈ chTk ls v k → 0 ≤ r.1 ∧ r.1 ≤ r.2.1 ∧ r.2.1 ≤ lnW ls ∧ r.2.2 = k ∧ evDp v ≠ 8 ∧ evK v ≠ 0 := sorry
theorem t_pBuild {Q : TT → Prop} (hL : LNS τ m ls) (hQ : ∀ τ', Fr τ τ' [185, 186, 197, 201, 205, 206, 207, 208, 212, 214] [124, 125, 126, 127, 128, 129, 130, 132, 133, 134, 135, 136, 137, 138, 139, 140, 141] → ENS τ' ls (bgF ls 9 [] (-1) 0 false 0 (lnW ls)) → Q τ') : w_pBuild τ Q := sorry
end BLX

/-! 98.ak.lean.txt -/
/-! the twin: sets of entities as bits of a number -/
set_option maxRecDepth 100000
theorem shrL_nat {a m : Nat} (hm : m < 64) (ha : a < 2 ^ 63) : shrL (a : Int) (m : Int) = ((a / 2 ^ m : Nat) : Int) := sorry
/-- a number whose bits are a set -/
def MSK (x : Int) (l : List Int) : Prop := ∃ n : Nat, x = n ∧ n < 2 ^ 60 ∧ (∀ i, i ∈ l → 0 ≤ i ∧ i < 60) ∧ ∀ i : Nat, n.testBit i = true ↔ (i : Int) ∈ l
section MSX
variable {x y : Int} {l m : List Int}
theorem MSK.nil : MSK 0 [] := sorry
theorem MSK.con (h : MSK x l) (he : ∀ i, i ∈ l ↔ i ∈ m) : MSK x m := sorry
theorem MSK.rng (h : MSK x l) : 0 ≤ x ∧ x < 1152921504606846976 := sorry
theorem MSK.zero (h : MSK x l) : x = 0 ↔ l = [] := sorry
theorem MSK.or (h : MSK x l) (h2 : MSK y m) : MSK (orL x y) (l ++ m) := sorry
theorem MSK.and (h : MSK x l) (h2 : MSK y m) : andL x y = 0 ↔ ∀ i, i ∈ l → i ∉ m := sorry
theorem MSK.one {e : Int} (h : 0 ≤ e ∧ e < 60) : MSK (shlL 1 e) [e] := sorry
theorem MSK.bit (h : MSK x l) {e : Int} (he : 0 ≤ e ∧ e < 60) : andL (shrL x e) 1 = 1 ↔ e ∈ l := sorry
end MSX

/-! 98.al.lean.txt -/
/-! the twin: which entities are shown, which hang on -/
set_option maxRecDepth 100000
/-- the entities of a range that lie in one -/
def kdR (E : List Ev) (j a : Int) : List Int := if h : a < lnW E then (if evP (en E a) = j then a :: kdR E j (a + 1) else kdR E j (a + 1)) else []
termination_by (lnW E - a).toNat
section KDR
variable {E : List Ev} {j : Int}
theorem kdR_in : ∀ (N : Nat) (a : Int), (lnW E - a).toNat = N → ∀ i, i ∈ kdR E j a ↔ a ≤ i ∧ i < lnW E ∧ evP (en E i) = j := sorry
theorem kids_R : kids E j = kdR E j 0 := sorry
theorem shG_all (alt : Bool) (pl : List Int → Bool) : ∀ (L : List (List Int)) (s : List Int) (la p : Option (List Int)), alt = false → ∀ i, i ∈ (shG alt pl L s la p).1 ↔ i ∈ s ∨ ∃ x, x ∈ L ∧ i ∈ x := sorry
/-- what a choice gives -/
theorem shG_1 (pl : List Int → Bool) : ∀ (L : List (List Int)) (s : List Int) (la p : Option (List Int)), (shG true pl L s la p).1 = s := sorry
end KDR
section KDS
variable {E : List Ev} {j : Int}
theorem kdR_sk {b : Int} : ∀ (N : Nat) (a : Int), (b - a).toNat = N → a ≤ b → (∀ i, a ≤ i → i < b → i < lnW E → evP (en E i) ≠ j) → kdR E j a = kdR E j b := sorry
/-- what lies in an entity stands behind it -/
def KDO (E : List Ev) : Prop := ∀ k, 0 ≤ k → k < lnW E → EPD E k
theorem kids_b (h : KDO E) (hj : 0 ≤ j) : kids E j = kdR E j (j + 1) := sorry
theorem shO_mem {k : Int} {alt : Bool} {L : List (List Int)} {pl : List Int → Bool} {s : List Int} {x : Int} (h : x ∈ shO k alt (shG alt pl L s none none)) : x ∈ s ∨ ∃ y, y ∈ L ∧ x ∈ y := sorry
theorem shF_in (hE : KDO E) : ∀ (n : Nat) (j : Int), 0 ≤ j → j < lnW E → ∀ i, i ∈ shF E n j → j ≤ i ∧ i < lnW E := sorry
end KDS
section FTX
variable {τ τ' : TT} {m : List Int} {ls : List (List Int)} {E : List Ev}
theorem ENS.kdo (h : ENS τ ls E) : KDO E := fun k k0 k1 => (h.2.2 k k0 k1).2.2.1
/-- a choice of sets -/
def OPM (x : Int) (o : Option (List Int)) : Prop := match o with
  | none => x = 0
  | some l => MSK x l ∧ l ≠ []
theorem t_pAlternative {e : Int} {H : List Int} {R : Int → List Int} {Q : Int → TT → Prop} (h : ENS τ ls E) (he : 0 ≤ e ∧ e < lnW E) (hR : ∀ c, e < c → c < lnW E → MSK (τ.2 131 c) (R c)) (hH : MSK (τ.1 196) H) (hHR : ∀ c, e < c → c < lnW E → ((∀ i, i ∈ R c → i ∉ H) ↔ plE E (R c) = true))
    (hQ : ∀ x, MSK x (shO 1 true (shG true (plE E) ((kdR E e (e + 1)).map R) [] none none)) → Q x τ) : w_pAlternative e τ Q := sorry
/-- what an entity shows, by its depth -/
def shD (E : List Ev) (k : Int) : List Int := shF E (9 - evDp (en E k)).toNat k
theorem t_pFindTexts {Q : TT → Prop} (h : ENS τ ls E) (hL : LNS τ m ls) (h0 : 0 < lnW E) (hQ : ∀ τ', Fr τ τ' [195, 196, 205, 206, 207, 208, 212] [131, 137, 138, 139, 140] → MSK (τ'.1 195) (shF E 9 0) → Q τ') : w_pFindTexts τ Q := sorry
/-- whether an entity hangs on -/
theorem t_pIsHanging {e : Int} {S : List Int} {Q : Int → TT → Prop} (h : ENS τ ls E) (hL : LNS τ m ls) (he : 0 ≤ e ∧ e < lnW E) (hS : MSK (τ.1 195) S) (hQ : ∀ τ', Fr τ τ' [205, 206, 207, 208, 212] [137, 138, 139, 140] → Q (if hgP E S e = true then 1 else 0) τ') : w_pIsHanging e τ Q := sorry
theorem t_pIsListed {e g : Int} {S : List Int} {Q : Int → TT → Prop} (h : ENS τ ls E) (hL : LNS τ m ls) (he : 0 ≤ e ∧ e < lnW E) (hS : MSK (τ.1 195) S) (hg : g = 0 ∨ g = 1)
    (hQ : ∀ τ' x, Fr τ τ' [205, 206, 207, 208, 212] [137, 138, 139, 140] → (g = 0 → x = if e ∈ S then 1 else 0) → (¬ g = 0 → x = if hgP E S e = true then 1 else 0) → Q x τ') : w_pIsListed e g τ Q := sorry
end FTX

