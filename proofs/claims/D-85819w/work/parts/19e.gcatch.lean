/-! calls under a handler -/
section GCATCH
variable {G : GPl} {s0 : State} {l : Launch} {K : Nat → Option Nat} {T : Nat → Nat} {md mdc : MD} {lev : Nat} {st0 σ : GSt} {pc idx len a b hp ct c : Nat} {nm : String} {ig : Instr} {lv : List (Option Value)} {stk rest as : List Value} {Q : Outcome → GSt → Prop}
theorem g_isOb {t : GSt} {x : Nat} (h27 : c < 28) (hk : gk t x = c + 1) : isOb (wP G s0 l K T) t x (gQ c).1 := fun _ _ ht hW hR => g_recv ht hW hR hk h27
theorem jg_callhi (h27 : c < 28) (hlk : Lk (wP G s0 l K T) md σ pc lv stk rest mdc.y as) (hcw : Cw mdc) (hrm : (rest.map fun v => v.category).sum ≤ 8) (hh : md.hh = [(a, b, hp, ct)]) (hcov : a ≤ pc ∧ pc < b) (hct : ct ≠ 0) (hq : Cond.classLink md.y.cls ct (gQ c).1 ∈ lw_all) (hd : decode md.cc pc = .ok (ig, len)) (h1 : 1 ≤ lev)
    (hC : CQ (wP G s0 l K T) mdc (lev - 1) as σ (onI (fun r t => gle σ t → JQ (wP G s0 l K T) md lev st0 (pc + len) lv (.int r :: rest) t Q) (fun x t => gle σ t → gk t x = c + 1 ∧ JQ (wP G s0 l K T) md lev st0 hp lv [va_rf (some x)] t Q))) : JQ (wP G s0 l K T) md lev st0 pc lv stk σ Q := by
  refine JQ.callH hlk hcw h1 hrm hh hcov hct hq hd (hC.mono (fun o t q hl => ?_))
  unfold onI at q
  split at q
  · exact q hl
  · exact ⟨g_isOb h27 (q hl).1, (q hl).2⟩
  · exact q.elim
theorem jg_callhv (h27 : c < 28) (hlk : Lk (wP G s0 l K T) md σ pc lv stk rest mdc.y as) (hcw : Cw mdc) (hrm : (rest.map fun v => v.category).sum ≤ 8) (hh : md.hh = [(a, b, hp, ct)]) (hcov : a ≤ pc ∧ pc < b) (hct : ct ≠ 0) (hq : Cond.classLink md.y.cls ct (gQ c).1 ∈ lw_all) (hd : decode md.cc pc = .ok (ig, len)) (h1 : 1 ≤ lev)
    (hC : CQ (wP G s0 l K T) mdc (lev - 1) as σ (onV (fun t => gle σ t → JQ (wP G s0 l K T) md lev st0 (pc + len) lv rest t Q) (fun x t => gle σ t → gk t x = c + 1 ∧ JQ (wP G s0 l K T) md lev st0 hp lv [va_rf (some x)] t Q))) : JQ (wP G s0 l K T) md lev st0 pc lv stk σ Q := by
  refine JQ.callH hlk hcw h1 hrm hh hcov hct hq hd (hC.mono (fun o t q hl => ?_))
  unfold onV at q
  split at q
  · exact q hl
  · exact ⟨g_isOb h27 (q hl).1, (q hl).2⟩
  · exact q.elim
theorem jg_callhr (h27 : c < 28) (hlk : Lk (wP G s0 l K T) md σ pc lv stk rest mdc.y as) (hcw : Cw mdc) (hrm : (rest.map fun v => v.category).sum ≤ 8) (hh : md.hh = [(a, b, hp, ct)]) (hcov : a ≤ pc ∧ pc < b) (hct : ct ≠ 0) (hq : Cond.classLink md.y.cls ct (gQ c).1 ∈ lw_all) (hd : decode md.cc pc = .ok (ig, len)) (h1 : 1 ≤ lev)
    (hC : CQ (wP G s0 l K T) mdc (lev - 1) as σ (onR (fun r t => gle σ t → JQ (wP G s0 l K T) md lev st0 (pc + len) lv (va_rf r :: rest) t Q) (fun x t => gle σ t → gk t x = c + 1 ∧ JQ (wP G s0 l K T) md lev st0 hp lv [va_rf (some x)] t Q))) : JQ (wP G s0 l K T) md lev st0 pc lv stk σ Q := by
  refine JQ.callH hlk hcw h1 hrm hh hcov hct hq hd (hC.mono (fun o t q hl => ?_))
  unfold onR at q
  split at q
  · exact q hl
  · exact q hl
  · exact ⟨g_isOb h27 (q hl).1, (q hl).2⟩
  · exact q.elim
end GCATCH
