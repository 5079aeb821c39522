/-! the hash of any text -/
set_option maxRecDepth 100000
theorem u_hashU {ω : AO} {d G : Nat} {Θ : Th} {a : Int} {l : List Int} {Q : Int → Th → Prop} (hd : 10 ≤ d) (hs : Str Θ a l) (hl : len l ≤ 100000) (hQ : Q (hsh l) Θ) : w2_J2_hashCode ω d G a Θ Q := by
  by_cases hw : wide l = 0
  · exact u_J2_hashCode (by omega) hs hw hQ
  · exact u_hashX (fun S R => by
      obtain ⟨_, _, _, _, h22⟩ := R.wd.2.2.2.2.2
      exact R.tgk (kd_of h22.2) ⟨by decide, by decide⟩) (by omega) hs (by
      rcases wide_01 (l := l) with z | z
      · exact absurd z hw
      · exact z) hQ
