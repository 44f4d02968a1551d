/-! THE HOUSE's WORLD: classes of terms, statics, constant texts -/
/-- the classes of terms (numbers), their tags -/
def tmC : List Nat := [7, 8, 9, 10, 11, 12, 17, 18, 19]
/-- statics that hold references: the sorts of tokens, the kinds of statements, the two empty rows; of the last three no more is known than that they are references or null -/
def gst : List (String × String × String) := [("PureHouse$Sort", "NAME", "LPureHouse$Sort;"), ("PureHouse$Sort", "WORD", "LPureHouse$Sort;"), ("PureHouse$Sort", "SIGN", "LPureHouse$Sort;"), ("PureHouse$Sort", "LONG", "LPureHouse$Sort;"), ("PureHouse$Sort", "BAD", "LPureHouse$Sort;"), ("PureHouse$Sort", "END", "LPureHouse$Sort;"),
  ("PureHouse$Kind", "SORT", "LPureHouse$Kind;"), ("PureHouse$Kind", "AXIOM", "LPureHouse$Kind;"), ("PureHouse$Kind", "RULE", "LPureHouse$Kind;"), ("PureHouse$Kind", "TELL", "LPureHouse$Kind;"), ("PureHouse$Kind", "CHECK", "LPureHouse$Kind;"), ("PureHouse$Kind", "NORM", "LPureHouse$Kind;"), ("PureHouse$Kind", "HEAD", "LPureHouse$Kind;"), ("PureHouse$Kind", "SAME", "LPureHouse$Kind;"),
  ("java/util/ArrayList", "DEFAULTCAPACITY_EMPTY_ELEMENTDATA", "[Ljava/lang/Object;"), ("java/util/ArrayList", "EMPTY_ELEMENTDATA", "[Ljava/lang/Object;"), ("jdk/internal/util/Preconditions", "SIOOBE_FORMATTER", "Ljava/util/function/BiFunction;"), ("java/lang/Throwable", "UNASSIGNED_STACK", "[Ljava/lang/StackTraceElement;"), ("java/lang/Throwable", "SUPPRESSED_SENTINEL", "Ljava/util/List;")]
/-- constant texts: whose entry, which -/
def gtx : List (String × Nat × String) := [("PureHouse", 185, "yes"), ("PureHouse", 187, "no"), ("PureHouse$Tables", 35, "type"), ("PureHouse$Tables", 41, "kind"), ("PureHouse$Reader", 107, "sort"), ("PureHouse$Reader", 112, "axiom"), ("PureHouse$Reader", 114, "rule"), ("PureHouse$Reader", 116, "check"), ("PureHouse$Reader", 118, "norm"), ("PureHouse$Reader", 120, "same"), ("PureHouse$Reader", 122, "head"), ("PureHouse$Reader", 124, "let"), ("PureHouse$Reader", 126, "in"), ("PureHouse$Reader", 128, "\\!:.;=()"), ("PureHouse$Reader", 279, ""), ("PureHouseModel", 9, "sort"), ("PureHouseModel", 11, "axiom"), ("PureHouseModel", 13, "rule"), ("PureHouseModel", 15, "check"), ("PureHouseModel", 17, "norm"), ("PureHouseModel", 19, "same"), ("PureHouseModel", 21, "head"), ("PureHouseModel", 23, "let"), ("PureHouseModel", 25, "in"), ("PureHouseModel", 176, "type"), ("PureHouseModel", 182, "kind")]
/-- what is known at the start: K i the i-th static's reference, T i the i-th text's address -/
def XG (s0 : State) (l : Launch) (G : GPl) (K : Nat → Option Nat) (T : Nat → Nat) : Prop :=
  (∀ c d, c ∈ tmC → d ∈ tmC → c ≠ d → va_Nc (gQ c).1 (gQ d).1 s0) ∧
  (∀ i q, gst[i]? = some q → va_Z q.1 q.2.1 q.2.2 (va_rf (K i)) (fun _ => False) s0 G.h0) ∧
  va_Z "java/lang/String" "COMPACT_STRINGS" "Z" (.int 1) (fun _ => False) s0 G.h0 ∧
  (∀ i q, gtx[i]? = some q → vk_R q.1 q.2.1 q.2.2 (T i) s0) ∧
  (∀ i, i < 8 → ∃ a, K (6 + i) = some a ∧ va_O "PureHouse$Kind" a (fun _ => False) s0 G.h0 ∧ va_OF "java/lang/Enum" "ordinal" "I" (.int (iI (i : Int))) a (fun _ => False) s0 G.h0) ∧
  (∃ mi, K 19 = some mi ∧ va_Mi "[Ljava/lang/Object;" mi s0) ∧ l.stackTraces = false
section GMISC
variable {G : GPl} {s0 : State} {l : Launch} {K : Nat → Option Nat} {T : Nat → Nat} {md mdc : MD} {lev : Nat} {st0 σ : GSt} {pc idx : Nat} {lv : List (Option Value)} {stk rest : List Value} {Q : Outcome → GSt → Prop}
/-- of the class with the tag t -/
def isA (σ : GSt) (r : Option Nat) (t : Nat) : Prop := ∃ a, r = some a ∧ gk σ a = t
/-- a term -/
def isTm (σ : GSt) (r : Option Nat) : Prop := ∃ a c, r = some a ∧ gk σ a = c + 1 ∧ c ∈ tmC
theorem tmC_lt {c : Nat} (h : c ∈ tmC) : c < 28 := by
  revert h; unfold tmC; simp; omega
theorem jg_inst {r : Option Nat} (d : Nat) (hdm : d ∈ tmC) (q1 : Cond.classLink md.y.cls idx (gQ d).1 ∈ lw_all) (h : isTm σ r) (hd : decode md.cc pc = .ok (.instanceof idx, 3))
    (kt : isA σ r (d + 1) → JQ (wG G s0 l (XG s0 l G K T)) md lev st0 (pc + 3) lv (.int (iI 1) :: stk) σ Q) (kf : ¬ isA σ r (d + 1) → JQ (wG G s0 l (XG s0 l G K T)) md lev st0 (pc + 3) lv (.int (iI 0) :: stk) σ Q) : JQ (wG G s0 l (XG s0 l G K T)) md lev st0 pc lv (va_rf r :: stk) σ Q := by
  obtain ⟨a, c, rfl, hk, hc⟩ := h
  by_cases hcd : c = d
  · subst hcd
    refine jg_see (fun p e R s m args below meth c' H locs cells slots QQ ls ht C hR kw => ?_) (kt ⟨a, rfl, hk⟩)
    exact va_instE C.1 C.2.1 C.2.2.2.2.2.2.1 (C.2.2.2.2.2.2.2.2.2 _ q1) (g_recv ht C.2.2.2.2.2.2.2.2.1 hR hk (tmC_lt hc)) hd kw
  · refine jg_see (fun p e R s m args below meth c' H locs cells slots QQ ls ht C hR kw => ?_) (kf (fun ⟨b, e1, e2⟩ => hcd (by cases e1; omega)))
    exact va_instNo C.1 C.2.1 C.2.2.2.2.2.2.1 (C.2.2.2.2.2.2.2.2.2 _ q1) (va_Nc.moved C.2.2.2.2.2.2.2.2.1.alike (ht.2.2.1 c d hc hdm hcd)) (g_recv ht C.2.2.2.2.2.2.2.2.1 hR hk (tmC_lt hc)) hd kw
/-- instanceof of the object's own class -/
theorem jg_instS {r : Option Nat} (d : Nat) (h27 : d < 28) (q1 : Cond.classLink md.y.cls idx (gQ d).1 ∈ lw_all) (h : isA σ r (d + 1)) (hd : decode md.cc pc = .ok (.instanceof idx, 3))
    (kt : JQ (wG G s0 l (XG s0 l G K T)) md lev st0 (pc + 3) lv (.int (iI 1) :: stk) σ Q) : JQ (wG G s0 l (XG s0 l G K T)) md lev st0 pc lv (va_rf r :: stk) σ Q := by
  obtain ⟨a, rfl, hk⟩ := h
  refine jg_see (fun p e R s m args below meth c' H locs cells slots QQ ls ht C hR kw => ?_) kt
  exact va_instE C.1 C.2.1 C.2.2.2.2.2.2.1 (C.2.2.2.2.2.2.2.2.2 _ q1) (g_recv ht C.2.2.2.2.2.2.2.2.1 hR hk h27) hd kw
/-- null, or of a class whose tag is in the list -/
def inT (σ : GSt) (r : Option Nat) (L : List Nat) : Prop := r = none ∨ ∃ a, r = some a ∧ gk σ a ∈ L
/-- the classes of the list can be cast -/
def castL (L : List Nat) (nm : String) : Prop := ∀ t ∈ L, ∃ c, t = c + 1 ∧ c < 28 ∧ (Cond.castable (gQ c).1 nm ∈ lw_tbl ∨ (gQ c).1 = nm)
theorem jg_cast {r : Option Nat} {L : List Nat} {nm : String} (hL : castL L nm) (q1 : Cond.classLink md.y.cls idx nm ∈ lw_all) (h : inT σ r L) (hd : decode md.cc pc = .ok (.checkcast idx, 3))
    (kt : JQ (wG G s0 l (XG s0 l G K T)) md lev st0 (pc + 3) lv (va_rf r :: stk) σ Q) : JQ (wG G s0 l (XG s0 l G K T)) md lev st0 pc lv (va_rf r :: stk) σ Q := by
  rcases h with rfl | ⟨a, rfl, hk⟩
  · exact jg_see (fun p e R s m args below meth c' H locs cells slots QQ ls ht C hR kw => lv_castN C.1 C.2.1 hd kw) kt
  · obtain ⟨c, e1, h27, e2⟩ := hL _ hk
    refine jg_see (fun p e R s m args below meth c' H locs cells slots QQ ls ht C hR kw => ?_) kt
    have hr := g_recv ht C.2.2.2.2.2.2.2.2.1 hR e1 h27
    rcases e2 with e2 | e2
    · exact va_castY C.1 C.2.1 C.2.2.2.2.2.2.1 (C.2.2.2.2.2.2.2.2.2 _ q1) (g_castable ht C.2.2.2.2.2.2.2.2.1 e2) hr hd kw
    · exact va_castE C.1 C.2.1 C.2.2.2.2.2.2.1 (C.2.2.2.2.2.2.2.2.2 _ q1) (by rw [← e2]; exact hr) hd kw
/-- a static is read -/
theorem jg_getsv {n C d : String} {v : Value} (hl : FL md.y.cls idx C n d) (hz : XG s0 l G K T → va_Z C n d v (fun _ => False) s0 G.h0) (hd : decode md.cc pc = .ok (.getstatic idx, 3))
    (kt : JQ (wG G s0 l (XG s0 l G K T)) md lev st0 (pc + 3) lv (v :: stk) σ Q) : JQ (wG G s0 l (XG s0 l G K T)) md lev st0 pc lv stk σ Q := by
  refine jg_see (fun p e R s m args below meth c' H locs cells slots QQ ls ht C hR kw => ?_) kt
  have hW := C.2.2.2.2.2.2.2.2.1
  obtain ⟨cf, kf, fi, f, a, cell, h1, h2, h3, h4, h5, h6, h7, -⟩ := va_Z.moved hW.alike (hz ht.2.2)
  obtain ⟨ref, e1, e2⟩ := hl s0 s args ht.1 hW
  have hcell : H[a]? = some cell := by rw [hR.1.2 a (Array.getElem?_eq_some_iff.mp h5).1]; exact h5
  rcases e2 with e2 | ⟨host, e2⟩
  · exact W.gets C.1 C.2.1 C.2.2.2.2.2.2.1 e2 (e1 _ h1) h2 h3 h4 hcell (fun e => by rw [e] at h6; cases h6) h7 rfl hd kw
  · exact va_WgetsN C.1 C.2.1 C.2.2.2.2.2.2.1 e2 (e1 _ h1) h2 h3 h4 hcell (fun e => by rw [e] at h6; cases h6) h7 rfl hd kw
theorem jg_gets {i : Nat} {q : String × String × String} (hq : gst[i]? = some q) (hl : FL md.y.cls idx q.1 q.2.1 q.2.2) (hd : decode md.cc pc = .ok (.getstatic idx, 3))
    (kt : JQ (wG G s0 l (XG s0 l G K T)) md lev st0 (pc + 3) lv (va_rf (K i) :: stk) σ Q) : JQ (wG G s0 l (XG s0 l G K T)) md lev st0 pc lv stk σ Q :=
  jg_getsv hl (fun h => h.2.1 i q hq) hd kt
theorem jg_getcs (hl : FL md.y.cls idx "java/lang/String" "COMPACT_STRINGS" "Z") (hd : decode md.cc pc = .ok (.getstatic idx, 3))
    (kt : JQ (wG G s0 l (XG s0 l G K T)) md lev st0 (pc + 3) lv (.int (iI 1) :: stk) σ Q) : JQ (wG G s0 l (XG s0 l G K T)) md lev st0 pc lv stk σ Q :=
  jg_getsv hl (fun h => h.2.2.1) hd kt
theorem jg_ldcS {i : Nat} {q : String × Nat × String} (hq : gtx[i]? = some q) (hc : q.1 = md.y.cls) (hd : decode md.cc pc = .ok (.ldc q.2.1, 2))
    (kt : JQ (wG G s0 l (XG s0 l G K T)) md lev st0 (pc + 2) lv (va_rf (some (T i)) :: stk) σ Q) : JQ (wG G s0 l (XG s0 l G K T)) md lev st0 pc lv stk σ Q := by
  refine jg_see (fun p e R s m args below meth c' H locs cells slots QQ ls ht C hR kw => ?_) kt
  have := vk_R.warm C.2.2.2.2.2.2.2.2.1 (ht.2.2.2.2.2.1 i q hq)
  exact va_ldcS C.1 C.2.1 (by rw [hc]; exact C.2.2.2.2.2.2.1) this hd kw
theorem jg_ldcwS {i : Nat} {q : String × Nat × String} (hq : gtx[i]? = some q) (hc : q.1 = md.y.cls) (hd : decode md.cc pc = .ok (.ldc_w q.2.1, 3))
    (kt : JQ (wG G s0 l (XG s0 l G K T)) md lev st0 (pc + 3) lv (va_rf (some (T i)) :: stk) σ Q) : JQ (wG G s0 l (XG s0 l G K T)) md lev st0 pc lv stk σ Q := by
  refine jg_see (fun p e R s m args below meth c' H locs cells slots QQ ls ht C hR kw => ?_) kt
  have := vk_R.warm C.2.2.2.2.2.2.2.2.1 (ht.2.2.2.2.2.1 i q hq)
  intro T' hT X'
  obtain ⟨t, a1, b1⟩ := kw T' hT X'
  exact ⟨t, X'.ldcStringW C.1 (by rw [hc]; exact C.2.2.2.2.2.2.1) (text := q.2.2) (a := T i) this.1 this.2 (g := F0 m pc ls stk) rfl (by rw [C.2.1]; exact hd) t a1, b1⟩
end GMISC
