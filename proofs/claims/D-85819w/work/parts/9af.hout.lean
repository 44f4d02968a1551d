/-! THE HOUSE (3): judging tells nothing -/
def kO {α : Type} (o : Nat) (r : KS × α) : Prop := r.1.outs = o
theorem kO.bind {α β : Type} {o : Nat} {r : SR α} {f : α → KS → SR β} (h : kO o r) (hf : ∀ a K, K.outs = o → kO o (f a K)) : kO o (sBind r f) := by
  obtain ⟨K, r⟩ := r
  cases r with
  | ok a => exact hf a K h
  | error e => exact h
theorem kO.jb {α β : Type} {o : Nat} {r : JR α} {f : α → KS → JR β} (h : kO o r) (hf : ∀ a K, K.outs = o → kO o (f a K)) : kO o (jBind r f) := by
  obtain ⟨K, r⟩ := r
  cases r with
  | ok a => exact hf a K h
  | error e => exact h
theorem kO.j {α : Type} {o : Nat} {r : SR α} (h : kO o r) : kO o (jOf r) := by
  obtain ⟨K, r⟩ := r
  cases r with
  | ok a => exact h
  | error e => exact h
section HO2
variable {X : SX} {J : JX} {o : Nat}
theorem kO_spend {c : Nat} {K : KS} (h : K.outs = o) : kO o (sSpend X c K) := by
  unfold sSpend
  split
  · exact h
  · split
    · exact h
    · exact h
theorem kO_spendN {c : Nat} : ∀ (n : Nat) (K : KS), K.outs = o → kO o (sSpendN X c n K) := by
  intro n
  induction n with
  | zero => intro K h; exact h
  | succ n ih => intro K h; exact (kO_spend h).bind (fun _ K h => ih K h)
theorem kO_head : ∀ (n : Nat) (t r : V) (as : List V) (K : KS), K.outs = o → kO o (sHead X n t r as K) := by
  intro n
  induction n with
  | zero => intro t r as K h; exact h
  | succ n ih =>
    intro t r as K h
    unfold sHead
    split
    · split
      · exact h
      · exact (kO_spend h).bind (fun _ K h => ih _ _ _ K h)
      · exact h
    · split
      · exact h
      · exact (kO_spend h).bind (fun _ K h => ih _ _ _ K h)
    · split
      · exact h
      · exact (kO_spend h).bind (fun _ K h => ih _ _ _ K h)
    · exact (kO_spend h).bind (fun _ K h => ih _ _ _ K h)
    · exact (kO_spendN _ _ h).bind (fun _ K h => ih _ _ _ K h)
    · exact h
theorem kO_hd {v : V} {K : KS} (h : K.outs = o) : kO o (sHd X v K) := by
  unfold sHd
  split
  · exact kO_head _ _ _ _ _ h
  · exact h
theorem kO_all {f : V → V → KS → SR Bool} (hf : ∀ x y K, K.outs = o → kO o (f x y K)) : ∀ (xs ys : List V) (K : KS), K.outs = o → kO o (sAll f xs ys K) := by
  intro xs
  induction xs with
  | nil => intro ys K h; cases ys <;> exact h
  | cons x xs ih =>
    intro ys K h
    cases ys with
    | nil => exact h
    | cons y ys => exact (hf x y K h).bind (fun b K h => by cases b; exact h; exact ih ys K h)
theorem kO_same : ∀ (d : Nat) (a b : V) (K : KS), K.outs = o → kO o (sSame X d a b K) := by
  intro d
  induction d with
  | zero => intro a b K h; exact h
  | succ d ih =>
    intro a b K h
    unfold sSame
    refine (kO_spend h).bind (fun _ K h => (kO_hd h).bind (fun x K h => (kO_hd h).bind (fun y K h => ?_)))
    split
    · split
      · refine (ih _ _ _ h).bind (fun r K h => ?_)
        split
        · exact ih _ _ _ h
        · exact h
      · exact h
    · split
      · exact kO_all (fun x y K h => ih x y K h) _ _ _ h
      · exact h
    · exact h
theorem kO_map {f : V → KS → SR V} (hf : ∀ x K, K.outs = o → kO o (f x K)) : ∀ (xs : List V) (K : KS), K.outs = o → kO o (sMap f xs K) := by
  intro xs
  induction xs with
  | nil => intro K h; exact h
  | cons x xs ih => intro K h; exact (hf x K h).bind (fun t K h => (ih K h).bind (fun ts K h => h))
theorem kO_norm : ∀ (d dep : Nat) (c : V) (K : KS), K.outs = o → kO o (sNorm X d dep c K) := by
  intro d
  induction d with
  | zero => intro dep c K h; exact h
  | succ d ih =>
    intro dep c K h
    unfold sNorm
    refine (kO_spend h).bind (fun _ K h => (kO_hd h).bind (fun x K h => ?_))
    split
    · exact (ih _ _ _ h).bind (fun t K h => (ih _ _ _ h).bind (fun u K h => h))
    · dsimp only
      split
      · exact h
      · exact (kO_map (fun c K h => ih dep c K h) _ _ h).bind (fun ps K h => h)
theorem kO_ts {fr : Int} {r : JR JA} (h : kO o r) : kO o (jTypeSort fr r) := h.jb (fun a K h => by
  split
  · exact h
  · exact h)
theorem kO_parts {at_ : Int} {sc : SC} {jd : V → KS → JR JA} (hj : ∀ p K, K.outs = o → kO o (jd p K)) : ∀ (ps : V) (a : JA) (K : KS), K.outs = o → kO o (jParts X at_ sc jd ps a K) := by
  intro ps
  induction ps with
  | append p ps _ ih =>
    intro a K h
    rw [jParts]
    split
    · refine (hj p K h).jb (fun c K1 h => (kO_same _ _ _ _ h).j.jb (fun same K2 h => ?_))
      split
      · exact (kO_norm _ _ _ _ h).j.jb (fun t K h => (ih _ _ h).jb (fun z K h => h))
      · exact h
    · exact h
  | _ => intro a K h; rw [jParts] <;> first | exact h | (intros; contradiction)
theorem kO_judge : ∀ (n : Nat) (t : V) (sc : SC) (K : KS), K.outs = o → kO o (sJudge X J n t sc K) := by
  intro n
  induction n with
  | zero => intro t sc K h; rw [sJudge]; exact h
  | succ n ih =>
    intro t sc K h
    generalize hm : n + 1 = m
    unfold sJudge
    split <;> first | exact h | (obtain rfl := Nat.succ.inj hm)
    · split
      · exact h
      · exact h
    · split
      · exact h
      · split
        · exact h
        · split
          · exact h
          · exact h
    · refine (kO_ts (ih _ _ _ h)).jb (fun a K h => (kO_norm _ _ _ _ h).j.jb (fun t K h => (ih _ _ _ h).jb (fun c K h => ?_)))
      split
      · exact h
      · dsimp only
        split
        · exact h
        · exact h
    · refine (kO_ts (ih _ _ _ h)).jb (fun a K h => (kO_norm _ _ _ _ h).j.jb (fun t K h => (kO_ts (ih _ _ _ h)).jb (fun c K h => ?_)))
      dsimp only
      split
      · exact h
      · exact h
    · exact (ih _ _ _ h).jb (fun a K h => (ih _ _ _ h).jb (fun c K h => h))
    · exact (ih _ _ _ h).jb (fun a K h => (kO_parts (fun p K h => ih _ _ _ h) _ _ _ h).jb (fun z K h => h))
theorem kO_hn {v : V} {K : KS} (h : K.outs = o) : kO o (hNorm X J v K) := (kO_ts (kO_judge _ _ _ _ h)).jb (fun a K h => (kO_norm _ _ _ _ h).j.jb (fun n K h => h))
theorem kO_hf {v n : V} {K : KS} (h : K.outs = o) : kO o (hFits X J v n K) := (kO_judge _ _ _ _ h).jb (fun a K1 h => (kO_same _ _ _ _ h).j.jb (fun b K h => by
  split
  · exact h
  · exact h))
theorem kO.ob {α : Type} {K K' : KS} {a : α} {r : KS × α} {n : Nat} (h : kO K.outs r) (e : r = (K', a)) (hl : K.life ≤ K'.life) (hO : OB K n) : OB K' n := by
  rw [e] at h
  have h' : K'.outs = K.outs := h
  unfold OB at hO ⊢
  omega
end HO2
