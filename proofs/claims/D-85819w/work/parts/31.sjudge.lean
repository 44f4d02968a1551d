/-! THE SPEC: judging. A raw term is .tag from X, X: .tag k .line (bound), .tag at .nil (a free name: the one that stands at that place of the text),
  .tag at (.append d b) (lambda), .tag at (.group (.append d b) .fill) (product), .tag at (.group (.append v b) .allOrNone) (let), .tag at (.group (.group (.append f ps) .fill) .fill) (use) -/
/-- the context and the sorts, as judging asks them: the name at a place; types, sorts of the context's names; the sort at a place; axioms, rules -/
abbrev JX : Type := (Nat → Option Nat) × (Nat → V) × (Nat → Int) × (Nat → Option Nat) × (Nat → Int) × (Nat → Nat → Int)
abbrev JX.cn (J : JX) : Nat → Option Nat := J.1
abbrev JX.ct (J : JX) : Nat → V := J.2.1
abbrev JX.cs (J : JX) : Nat → Int := J.2.2.1
abbrev JX.sf (J : JX) : Nat → Option Nat := J.2.2.2.1
abbrev JX.ax (J : JX) : Nat → Int := J.2.2.2.2.1
abbrev JX.ru (J : JX) : Nat → Nat → Int := J.2.2.2.2.2
/-- a fault: its kind, its place -/
abbrev JR (α : Type) : Type := KS × Except (Nat × Int) α
def jBind {α β : Type} (r : JR α) (f : α → KS → JR β) : JR β := match r with
  | (K, .ok a) => f a K
  | (K, .error e) => (K, .error e)
def jOf {α : Type} (r : SR α) : JR α := match r with
  | (K, .ok a) => (K, .ok a)
  | (K, .error e) => (K, .error (e, -1))
/-- around: what is bound (a value), its type, where that stands, its sort -/
abbrev SC : Type := List (V × V × V × Int)
def scEnv : SC → V
  | [] => .nil
  | e :: r => .append e.1 (scEnv r)
/-- judged: the term with its names told, its type, where that stands, its sort -/
abbrev JA : Type := V × V × V × Int
def jFrom : V → Int
  | .tag f _ => (f : Int)
  | _ => -1
def jSortOf (t r : V) : Option Nat := match sUnw t r with
  | (.tag s (.align true), _) => some s
  | _ => none
def jTypeSort (fr : Int) (r : JR JA) : JR (V × Nat) := jBind r fun a K => match jSortOf a.2.1 a.2.2.1 with
  | some s => (K, .ok (a.1, s))
  | none => (K, .error (8, fr))
def jIsSort (J : JX) (u : V) (s : Int) (K : KS) : JR JA := (K, .ok (u, .tag s.toNat (.align true), .nil, J.ax s.toNat))
def jWith (t : V) (a : Nat) (sc : SC) : SC := (vLoc sc.length, t, scEnv sc, (a : Int)) :: sc
def jNormal (X : SX) (t : V) (sc : SC) (K : KS) : JR V := jOf (sNorm X 100 sc.length (vClo t (scEnv sc)) K)
def jLifted (t r : V) (d : Nat) : V := if d - vlen r = 0 then t else .group (.tag (d - vlen r) t) .allOrNone
/-- the parts of a use, one behind the other -/
def jParts (X : SX) (at_ : Int) (sc : SC) (jd : V → KS → JR JA) : V → JA → KS → JR (V × JA)
  | .append p ps, a, K => match sUnw a.2.1 a.2.2.1 with
    | (.tag q (.group (.append d b) .fill), r) => jBind (jd p K) fun c K => jBind (jOf (sSame X 100 (vClo d r) (vClo (sUnw c.2.1 c.2.2.1).1 (sUnw c.2.1 c.2.2.1).2) K)) fun same K =>
      if same then jBind (jOf (sNorm X 100 sc.length (vClo b (.append (vClo c.1 (scEnv sc)) r)) K)) fun t K =>
        jBind (jParts X at_ sc jd ps (a.1, t, scEnv sc, ((q % 8 : Nat) : Int)) K) fun z K => (K, .ok (.append c.1 z.1, z.2))
      else (K, .error (11, jFrom p))
    | _ => (K, .error (10, at_))
  | _, a, K => (K, .ok (.nil, a))
def sJudge (X : SX) (J : JX) : Nat → V → SC → KS → JR JA
  | 0, _, _, K => (K, .error (99, -1))
  | n + 1, .tag _ (.tag k .line), sc, K => match sc[k]? with
    | some e => (K, .ok (.tag k .line, e.2.1, e.2.2.1, e.2.2.2))
    | none => (K, .error (99, -1))
  | n + 1, .tag _ (.tag at_ .nil), sc, K => match J.cn at_ with
    | some k => (K, .ok (.tag k .nil, J.ct k, .nil, J.cs k))
    | none => match J.sf at_ with
      | none => (K, .error (3, at_))
      | some s => if J.ax s = -1 then (K, .error (7, at_)) else jIsSort J (.tag s (.align true)) (J.ax s) K
  | n + 1, .tag _ (.tag at_ (.append d b)), sc, K => jBind (jTypeSort (jFrom d) (sJudge X J n d sc K)) fun a K => jBind (jNormal X a.1 sc K) fun t K =>
      jBind (sJudge X J n b (jWith t a.2 sc) K) fun c K => if c.2.2.2 = -1 then (K, .error (7, at_)) else
        let r := J.ru a.2 c.2.2.2.toNat
        if r = -1 then (K, .error (9, at_)) else (K, .ok (.tag 0 (.append a.1 c.1), .tag (8 * a.2 + c.2.2.2.toNat) (.group (.append t (jLifted c.2.1 c.2.2.1 (sc.length + 1))) .fill), scEnv sc, r))
  | n + 1, .tag _ (.tag at_ (.group (.append d b) .fill)), sc, K => jBind (jTypeSort (jFrom d) (sJudge X J n d sc K)) fun a K => jBind (jNormal X a.1 sc K) fun t K =>
      jBind (jTypeSort (jFrom b) (sJudge X J n b (jWith t a.2 sc) K)) fun c K =>
        let r := J.ru a.2 c.2
        if r = -1 then (K, .error (9, at_)) else jIsSort J (.tag (8 * a.2 + c.2) (.group (.append a.1 c.1) .fill)) r K
  | n + 1, .tag _ (.tag _ (.group (.append v b) .allOrNone)), sc, K => jBind (sJudge X J n v sc K) fun a K =>
      jBind (sJudge X J n b ((vClo a.1 (scEnv sc), a.2) :: sc) K) fun c K =>
        (K, .ok (.tag 1 (.append a.1 c.1), if sc.length < vlen c.2.2.1 then (.group c.2.1 .fill, scEnv sc, c.2.2.2) else c.2))
  | n + 1, .tag _ (.tag at_ (.group (.group (.append f ps) .fill) .fill)), sc, K => jBind (sJudge X J n f sc K) fun a K =>
      jBind (jParts X at_ sc (fun p K => sJudge X J n p sc K) ps a K) fun z K => (K, .ok (.tag 2 (.append a.1 z.1), z.2.2))
  | _ + 1, _, _, K => (K, .error (99, -1))
