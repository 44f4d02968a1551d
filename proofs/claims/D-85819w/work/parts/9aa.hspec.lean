/-! THE SPEC: the house. A name of the context: its bytes, type, sort, value. Tables: the sorts' names, axioms, rules -/
abbrev CN : Type := List Nat × V × Int × Option V
abbrev CN.nm (c : CN) : List Nat := c.1
abbrev CN.ty (c : CN) : V := c.2.1
abbrev CN.so (c : CN) : Int := c.2.2.1
abbrev CN.va (c : CN) : Option V := c.2.2.2
abbrev HT : Type := List (List Nat) × (Nat → Int) × (Nat → Nat → Int)
def cAt (cx : List CN) (k : Nat) : CN := cx.getD k ([], .nil, 0, none)
def hX (lim : Nat) (tb : HT) (cx : List CN) : SX := (lim, fun k => (cAt cx k).va, fun k => (cAt cx k).nm, fun s => tb.1.getD s [])
def hSo (tb : HT) (w : List Nat) : Option Nat := firstN (fun s => tb.1.getD s []) w tb.1.length 0
def hCn (cx : List CN) (w : List Nat) : Option Nat := lastN (fun k => (cAt cx k).nm) w cx.length
def hJ (t : TX) (tb : HT) (cx : List CN) : JX := (fun p => hCn cx (tname t p), fun k => (cAt cx k).ty, fun k => (cAt cx k).so, fun p => hSo tb (tname t p), tb.2.1, tb.2.2)
/-- a type becomes its normal form -/
def hNorm (X : SX) (J : JX) (v : V) (K : KS) : JR (V × Nat) := jBind (jTypeSort (jFrom v) (sJudge X J 100 v [] K)) fun a K => jBind (jNormal X a.1 [] K) fun n K => (K, .ok (n, a.2))
def hClo (a : JA) : V := vClo (sUnw a.2.1 a.2.2.1).1 (sUnw a.2.1 a.2.2.1).2
/-- a term has the type n -/
def hFits (X : SX) (J : JX) (v n : V) (K : KS) : JR V := jBind (sJudge X J 100 v [] K) fun a K => jBind (jOf (sSame X 100 (vClo n .nil) (hClo a) K)) fun b K => if b = true then (K, .ok a.1) else (K, .error (11, jFrom v))
def hTab (t : TX) (tb : HT) (cx : List CN) (s : ST) : Except (Nat × Int) HT :=
  if cx.length ≠ 0 then .error (6, s.2.1) else
  match s.1, s.2.2.1 with
  | 0, [x] => match hSo tb (tname t x) with
    | some _ => .error (4, x)
    | none => if tb.1.length = 8 then .error (5, x) else .ok (tb.1 ++ [tname t x], tb.2)
  | 1, [x, y] => match hSo tb (tname t x) with
    | none => .error (3, x)
    | some a => match hSo tb (tname t y) with
      | none => .error (3, y)
      | some b => if tb.2.1 a = -1 then .ok (tb.1, (fun k => if k = a then (b : Int) else tb.2.1 k), tb.2.2) else .error (4, x)
  | 2, [x, y, z] => match hSo tb (tname t x) with
    | none => .error (3, x)
    | some a => match hSo tb (tname t y) with
      | none => .error (3, y)
      | some b => match hSo tb (tname t z) with
        | none => .error (3, z)
        | some c => if tb.2.2 a b = -1 then .ok (tb.1, tb.2.1, fun i j => if i = a ∧ j = b then (c : Int) else tb.2.2 i j) else .error (4, x)
  | _, _ => .error (99, 0)
def hTell (X : SX) (J : JX) (nm : List Nat) (ty tm : Option V) (K : KS) : JR CN := match ty, tm with
  | some ty, some tm => jBind (hNorm X J ty K) fun n K => jBind (hFits X J tm n.1 K) fun v K => (K, .ok (nm, n.1, (n.2 : Int), some v))
  | some ty, none => jBind (hNorm X J ty K) fun n K => (K, .ok (nm, n.1, (n.2 : Int), none))
  | none, some tm => jBind (sJudge X J 100 tm [] K) fun a K => (K, .ok (nm, a.2.1, a.2.2.2, some a.1))
  | none, none => (K, .error (99, -1))
def hTells (t : TX) (X : SX) (J : JX) (cx : List CN) (x : Nat) (ty tm : Option V) (K : KS) : JR (List CN) :=
  if (J.cn x).isSome = true ∨ (J.sf x).isSome = true then (K, .error (4, x)) else if cx.length = 100 then (K, .error (5, x))
  else jBind (hTell X J (tname t x) ty tm K) fun c K => (K, .ok (cx ++ [c]))
def hYes (b : Bool) (K : KS) : KS := sPut 10 (sPuts (if b = true then [121, 101, 115] else [110, 111]) K)
/-- what a head that binds begins with -/
def hMk (u : V) (K : KS) : KS := match sBinds u with
  | some (l, _) => sPut (if l = true then 92 else 33) K
  | none => K
/-- the line that a head is told as -/
def hHead (X : SX) (h : V × List V) (K : KS) : KS := sPut 10 (sNum 12 h.2.length (sPut 32 (sName X h.1 (hMk h.1 K))))
/-- the head of what was judged is told -/
def hK6 (X : SX) (a : JA) (K : KS) : JR Unit := jBind (jOf (sHd X (vClo a.1 .nil) K)) fun h K => (hHead X h K, .ok ())
/-- check, norm, head, same -/
def hAsk (X : SX) (J : JX) (kd : Nat) (ty tm : Option V) (K : KS) : JR Unit := match tm with
  | none => (K, .error (99, -1))
  | some tm =>
    if kd = 4 then match ty with
      | none => jBind (sJudge X J 100 tm [] K) fun a K => jBind (jOf (sTell X 100 (hClo a) 0 false false K)) fun _ K => (sPut 10 K, .ok ())
      | some ty => jBind (hNorm X J ty K) fun n K => jBind (hFits X J tm n.1 K) fun _ K => (hYes true K, .ok ())
    else if kd = 5 then jBind (sJudge X J 100 tm [] K) fun a K => jBind (jOf (sTell X 100 (vClo a.1 .nil) 0 false false K)) fun _ K => (sPut 10 K, .ok ())
    else if kd = 6 then jBind (sJudge X J 100 tm [] K) (hK6 X)
    else match ty with
      | none => (K, .error (99, -1))
      | some ty => jBind (sJudge X J 100 tm [] K) fun a K => jBind (sJudge X J 100 ty [] K) fun b K => jBind (jOf (sSame X 100 (vClo a.1 .nil) (vClo b.1 .nil) K)) fun r K => (hYes r K, .ok ())
def sDo (lim : Nat) (t : TX) (tb : HT) (cx : List CN) (s : ST) (K : KS) : JR (HT × List CN) :=
  if s.1 ≤ 2 then (match hTab t tb cx s with
    | .error e => (K, .error e)
    | .ok tb' => (K, .ok (tb', cx)))
  else if s.1 = 3 then jBind (hTells t (hX lim tb cx) (hJ t tb cx) cx (s.2.2.1.headD 0) s.2.2.2.1 s.2.2.2.2 K) fun cx' K => (K, .ok (tb, cx'))
  else jBind (hAsk (hX lim tb cx) (hJ t tb cx) s.1 s.2.2.2.1 s.2.2.2.2 K) fun _ K => (K, .ok (tb, cx))
def kBeg (K : KS) : KS := (0, K.life, (fun _ => 0), K.outs, K.out, 0)
/-- all statements; d were done -/
def sRuns (lim : Nat) (t : TX) : List ST → HT → List CN → KS → Nat → HT × List CN × KS × Nat × Option (Nat × Int)
  | [], tb, cx, K, d => (tb, cx, K, d, none)
  | s :: ss, tb, cx, K, d => match sDo lim t tb cx s (kBeg K) with
    | (K, .ok (tb', cx')) => sRuns lim t ss tb' cx' K (d + 1)
    | (K, .error (e, p)) => (tb, cx, K, d, some (e, if 12 ≤ e then (s.2.1 : Int) else p))
/-- the house: the tape; the latest fault (kind, place, how many were done); the limit; tables; context; counters; marks -/
abbrev HO : Type := TX × (Nat × Int × Nat) × Nat × HT × List CN × KS × List Nat
abbrev HO.tp (H : HO) : TX := H.1
abbrev HO.ft (H : HO) : Nat × Int × Nat := H.2.1
abbrev HO.lim (H : HO) : Nat := H.2.2.1
abbrev HO.tb (H : HO) : HT := H.2.2.2.1
abbrev HO.cx (H : HO) : List CN := H.2.2.2.2.1
abbrev HO.K (H : HO) : KS := H.2.2.2.2.2.1
abbrev HO.mk (H : HO) : List Nat := H.2.2.2.2.2.2
def byW (v : Int32) (k : Nat) : Nat := ((v >>> iI (24 - 8 * (k : Int))) &&& iI 255).toInt.toNat
def wAt (a b c d e : Int32) (k : Nat) : Int32 := if k < 4 then a else if k < 8 then b else if k < 12 then c else if k < 16 then d else e
def oFeed (a b c d e : Int32) (H : HO) : HO := (((fun j => if H.tp.2 ≤ j ∧ j < H.tp.2 + 20 then byW (wAt a b c d e (j - H.tp.2)) ((j - H.tp.2) % 4) else H.tp.1 j), H.tp.2 + 20), H.2)
def kOut0 (K : KS) : KS := (K.1, K.2.1, K.2.2.1, 0, K.out, K.fr)
def oText (n : Nat) (H : HO) : HO := match sRead (H.tp.1, n) with
  | .error (e, p) => ((H.tp.1, 0), (e, p, 0), H.lim, H.tb, H.cx, kOut0 H.K, H.mk)
  | .ok ss =>
    let r := sRuns H.lim (H.tp.1, n) ss H.tb H.cx (kOut0 H.K) 0
    ((H.tp.1, 0), (match r.2.2.2.2 with | none => (0, -1, r.2.2.2.1) | some e => (e.1, e.2, r.2.2.2.1)), H.lim, r.1, r.2.1, r.2.2.1, H.mk)
def hCor (k : Nat) : HT := if k = 8 then ([], (fun _ => -1), fun _ _ => -1) else
  ([[116, 121, 112, 101], [107, 105, 110, 100]], (fun i => if i = 0 then 1 else -1), fun a b =>
    if a = 0 ∧ b = 0 then 0 else if a = 1 ∧ b = 0 ∧ k % 2 = 1 then 0 else if a = 1 ∧ b = 1 ∧ k / 2 % 2 = 1 then 1 else if a = 0 ∧ b = 1 ∧ k / 4 % 2 = 1 then 1 else -1)
def oCorner (k : Nat) (H : HO) : HO := (H.tp, H.ft, H.lim, hCor k, [], H.K, [])
def oLimit (n : Nat) (H : HO) : HO := (H.tp, H.ft, n, H.2.2.2)
def oType (k : Nat) (H : HO) : HO × Int :=
  let r := sTell (hX H.lim H.tb H.cx) 100 (vClo (cAt H.cx k).ty .nil) 0 false false (kBeg (kOut0 H.K))
  ((H.tp, H.ft, H.lim, H.tb, H.cx, r.1, H.mk), match r.2 with | .ok _ => (r.1.outs : Int) | .error e => -(e : Int))
def oSame (j k : Nat) (H : HO) : HO × Int :=
  let r := sSame (hX H.lim H.tb H.cx) 100 (vClo (.tag j .nil) .nil) (vClo (.tag k .nil) .nil) (kBeg H.K)
  ((H.tp, H.ft, H.lim, H.tb, H.cx, r.1, H.mk), match r.2 with | .ok b => (if b = true then 1 else 0) | .error e => -(e : Int))
def oMark (H : HO) : HO := (H.tp, H.ft, H.lim, H.tb, H.cx, H.K, H.mk ++ [H.cx.length])
def oBack (H : HO) : HO := (H.tp, H.ft, H.lim, H.tb, H.cx.take (H.mk.getLastD 0), H.K, H.mk.dropLast)
def cntR (f : Nat → Int) : Nat → Nat
  | 0 => 0
  | n + 1 => cntR f n + if f n = -1 then 0 else 1
def oCount (w : Nat) (H : HO) : Nat :=
  if w = 0 then H.K.work else if w ≤ 6 then H.K.sp (w - 1) else if w = 7 then H.K.life else if w = 8 then H.cx.length else if w = 9 then H.tb.1.length
  else if w = 10 then cntR H.tb.2.1 8 else if w = 11 then cntR (fun i => H.tb.2.2 (i / 8) (i % 8)) 64 else if w = 12 then H.mk.length else H.tp.2
def oName (k w : Nat) (H : HO) : Int := if w = 0 then (match (cAt H.cx k).va with | some _ => 1 | none => 0) else if w = 1 then (cAt H.cx k).so else if w = 2 then ((cAt H.cx k).nm.length : Int)
  else match (cAt H.cx k).nm[w - 3]? with | some c => (c : Int) | none => -1
def oSort (k w : Nat) (H : HO) : Int := if w = 0 then H.tb.2.1 k else if w = 1 then ((H.tb.1.getD k []).length : Int) else match (H.tb.1.getD k [])[w - 2]? with | some c => (c : Int) | none => -1
