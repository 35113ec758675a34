/-! THE SPEC: a simulation as plain data (ints of 32 bits as in the code), and what its methods do; gh counts cells and slots, and keeps the lists' capacities -/
set_option maxRecDepth 100000
def fu {α : Type} (f : Nat → α) (k : Nat) (v : α) : Nat → α := fun i => if i = k then v else f i
/-- kind, node, sequence, first, second, third, time -/
abbrev MG : Type := Nat × Nat × Int32 × Int32 × Int32 × Int32 × Int32
/-- node, token, register, value, time -/
abbrev DG : Type := Nat × Int32 × Nat × Int32 × Int32
/-- node, from, to -/
abbrev OG : Type := Nat × Int32 × Int32
/-- time, kind, node, token -/
abbrev EG : Type := Int32 × Int32 × Int32 × Int32
/-- configuration (0 rate, 1 offset of the server; 3 duration, 4 bound, 5 renewal, 6 retry, 7 jitter, 8 seed), number of nodes, nodes (1 delay, 2 up, 3 candidate, 4 cut, 5 paused until, 6 token, 7 limit,
8 timer, 9 cached set, 10 led, 11 acquires; 20 rate, 21 offset; 30.. cache), lists, arrays (0 values, 1 versions, 2 events), scalars (8 now, 9 random, 10 sent, 11 lost, 12 holder, 13 expiry, 14 greatest,
15 grace's end, 16 split time, 17 leaderless, 18 reads, 19 stale reads, 20 watched, 21 outcome; 30 the storage's greatest), ghosts (0 cells, 1 slots, 2..5 capacities) -/
abbrev SS : Type := (Nat → Int32) × Nat × (Nat → Nat → Int32) × (List MG × List DG × List OG × List EG) × (Nat → Nat → Int32) × (Nat → Int32) × (Nat → Nat)
abbrev s_cf (s : SS) : Nat → Int32 := s.1
abbrev s_n (s : SS) : Nat := s.2.1
abbrev s_nd (s : SS) : Nat → Nat → Int32 := s.2.2.1
abbrev s_ms (s : SS) : List MG := s.2.2.2.1.1
abbrev s_dl (s : SS) : List DG := s.2.2.2.1.2.1
abbrev s_ou (s : SS) : List OG := s.2.2.2.1.2.2.1
abbrev s_lg (s : SS) : List EG := s.2.2.2.1.2.2.2
abbrev s_ar (s : SS) : Nat → Nat → Int32 := s.2.2.2.2.1
abbrev s_sc (s : SS) : Nat → Int32 := s.2.2.2.2.2.1
abbrev s_gh (s : SS) : Nat → Nat := s.2.2.2.2.2.2
def u_nd (s : SS) (i k : Nat) (v : Int32) : SS := (s.1, s.2.1, fu s.2.2.1 i (fu (s.2.2.1 i) k v), s.2.2.2.1, s.2.2.2.2.1, s.2.2.2.2.2.1, s.2.2.2.2.2.2)
def u_ls (s : SS) (l : List MG × List DG × List OG × List EG) : SS := (s.1, s.2.1, s.2.2.1, l, s.2.2.2.2.1, s.2.2.2.2.2.1, s.2.2.2.2.2.2)
def u_ms (s : SS) (l : List MG) : SS := u_ls s (l, s.2.2.2.1.2)
def u_dl (s : SS) (l : List DG) : SS := u_ls s (s.2.2.2.1.1, l, s.2.2.2.1.2.2)
def u_ou (s : SS) (l : List OG) : SS := u_ls s (s.2.2.2.1.1, s.2.2.2.1.2.1, l, s.2.2.2.1.2.2.2)
def u_lg (s : SS) (l : List EG) : SS := u_ls s (s.2.2.2.1.1, s.2.2.2.1.2.1, s.2.2.2.1.2.2.1, l)
def u_ar (s : SS) (j k : Nat) (v : Int32) : SS := (s.1, s.2.1, s.2.2.1, s.2.2.2.1, fu s.2.2.2.2.1 j (fu (s.2.2.2.2.1 j) k v), s.2.2.2.2.2.1, s.2.2.2.2.2.2)
def u_sc (s : SS) (k : Nat) (v : Int32) : SS := (s.1, s.2.1, s.2.2.1, s.2.2.2.1, s.2.2.2.2.1, fu s.2.2.2.2.2.1 k v, s.2.2.2.2.2.2)
def u_gh (s : SS) (g : Nat → Nat) : SS := (s.1, s.2.1, s.2.2.1, s.2.2.2.1, s.2.2.2.2.1, s.2.2.2.2.2.1, g)
/-- c cells of k slots are made -/
def g_mk (s : SS) (c k : Nat) : SS := u_gh s (fu (fu (s_gh s) 0 (s_gh s 0 + c)) 1 (s_gh s 1 + k))
/-- the list li of size sz takes one more -/
def gg (g : Nat → Nat) (li sz : Nat) : Nat → Nat := if sz = g li then fu (fu (fu g li (g li + max 1 (g li / 2))) 0 (g 0 + 1)) 1 (g 1 + (g li + max 1 (g li / 2))) else g
def g_add (s : SS) (li sz : Nat) : SS := u_gh s (gg (s_gh s) li sz)
def mx (a b : Int32) : Int32 := if a < b then b else a
def mn (a b : Int32) : Int32 := if b < a then b else a
def c_at (r o t : Int32) : Int32 := ((o.toInt64) + (((r.toInt64) * (t.toInt64)) / (1000 : Int64))).toInt32
def c_re (r o v : Int32) : Int32 := ((((((if ((v.toInt64) - (o.toInt64)) < (0 : Int64) then (0 : Int64) else ((v.toInt64) - (o.toInt64))) * (1000 : Int64)) + (r.toInt64)) - (1 : Int64)) / (r.toInt64)).toInt32)
def lcg (x : Int32) : Int32 := ((((1103515245 : Int64) * (x.toInt64)) + (12345 : Int64)) - (((1103515245 : Int64) * (x.toInt64)) + (12345 : Int64)) / (2147483648 : Int64) * (2147483648 : Int64)).toInt32
def jit (x j : Int32) : Int32 := (x / (65536 : Int32)) - (x / (65536 : Int32)) / (j + (1 : Int32)) * (j + (1 : Int32))
abbrev now (s : SS) : Int32 := s_sc s 8
def srvAt (s : SS) : Int32 := c_at (s_cf s 0) (s_cf s 1) (now s)
def ndAt (s : SS) (i : Nat) (t : Int32) : Int32 := c_at (s_nd s i 20) (s_nd s i 21) t
def ndRe (s : SS) (i : Nat) (v : Int32) : Int32 := c_re (s_nd s i 20) (s_nd s i 21) v
def paused (s : SS) (i : Nat) (t : Int32) : Bool := s_nd s i 2 != 0 && decide (t < s_nd s i 5)
def until_ (s : SS) (i : Nat) : Int32 := if s_nd s i 2 = 0 then 0 else if s_nd s i 6 ≤ 0 then 0 else ndRe s i (s_nd s i 7)
def leads (s : SS) (i : Nat) (t : Int32) : Bool := decide (t < until_ s i)
def setTimer (s : SS) (i : Nat) (v : Int32) : SS := u_nd s i 8 (mx (now s + 1) (ndRe s i v))
def lose (s : SS) (i : Nat) : SS := u_nd (u_nd s i 6 0) i 9 0
def note (s : SS) (kind : Nat) (node tok : Int32) : SS :=
  let s1 := if (s_lg s).length = 200 then u_lg s (s_lg s).tail else s
  let s2 := g_mk s1 1 4
  let s3 := g_add s2 5 (s_lg s2).length
  let s4 := u_lg s3 (s_lg s3 ++ [(now s, Int32.ofNat kind, node, tok)])
  u_ar s4 2 kind (s_ar s4 2 kind + 1)
/-- send, with the row of its len numbers -/
def send (s : SS) (kind node len : Nat) (a b c : Int32) : SS :=
  let s1 := g_mk s 1 len
  let x := lcg (s_sc s 9)
  let s2 := u_sc (u_sc s1 9 x) 10 (s_sc s 10 + 1)
  if s_nd s node 4 = 0 then
    let s3 := g_add (g_mk s2 2 10) 2 (s_ms s).length
    u_ms s3 (s_ms s ++ [(kind, node, s_sc s 10 + 1, a, b, c, now s + s_nd s node 1 + jit x (s_cf s 7))])
  else u_sc s2 11 (s_sc s 11 + 1)
def acquire (s : SS) (i : Nat) : SS :=
  let shown := ndAt s i (now s)
  let s1 := setTimer s i (shown + s_cf s 6)
  let s2 := u_nd s1 i 11 (s_nd s1 i 11 + 1)
  send s2 0 i 1 shown 0 0
/-- m comes ahead of q -/
def bef (m q : MG) : Bool := decide (m.2.2.2.2.2.2 < q.2.2.2.2.2.2) || (decide (m.2.2.2.2.2.2 = q.2.2.2.2.2.2) && decide (m.2.2.1 < q.2.2.1))
def fmGo : List MG → Nat → Option (Nat × MG) → Option (Nat × MG)
  | [], _, acc => acc
  | m :: l, k, none => fmGo l (k + 1) (some (k, m))
  | m :: l, k, some f => fmGo l (k + 1) (if bef m f.2 then some (k, m) else some f)
/-- the first message, with its place -/
def fmsg (l : List MG) : Option (Nat × MG) := fmGo l 0 none
def toNode (kind : Nat) : Bool := kind == 1 || kind == 2 || decide (6 ≤ kind)
def watch (s : SS) (m : MG) (its : Int32) : SS := u_sc s 21 (if m.2.2.1 = s_sc s 20 then its else s_sc s 21)
def decide_ (s : SS) (m : MG) : SS :=
  let shown := srvAt s
  let isHeld := s_sc s 12 != -4 && decide (shown < s_sc s 13)
  if shown < s_sc s 15 ∨ (isHeld = true ∧ s_sc s 12 ≠ Int32.ofNat m.2.1) then
    send (note s 3 (Int32.ofNat m.2.1) (s_sc s 14)) 2 m.2.1 0 0 0 0
  else
    let s1 := if isHeld = true then s else u_sc s 14 (s_sc s 14 + 1)
    let s2 := u_sc (u_sc s1 12 (Int32.ofNat m.2.1)) 13 (shown + s_cf s 3)
    let s3 := note s2 (if isHeld = true then 2 else 1) (Int32.ofNat m.2.1) (s_sc s2 14)
    send s3 1 m.2.1 2 m.2.2.2.1 (s_sc s3 14) 0
/-- the storage is behind: two exceptions are made -/
def fence (s : SS) (m : MG) : SS := send (watch (note (g_mk s 2 13) 5 (Int32.ofNat m.2.1) m.2.2.2.1) m 1) 8 m.2.1 1 m.2.2.2.1 0 0
def atStorage (s : SS) (m : MG) : SS :=
  if s_sc s 30 ≤ m.2.2.2.1 then
    let s1 := u_sc s 30 m.2.2.2.1
    let r := m.2.2.2.2.1.toNatClampNeg
    if m.1 = 5 then send s1 7 m.2.1 3 m.2.2.2.1 m.2.2.2.2.1 (s_ar s 0 r)
    else
      let s2 := u_ar (u_ar s1 0 r m.2.2.2.2.2.1) 1 r (s_ar s 1 r + 1)
      send (watch (note s2 6 (Int32.ofNat m.2.1) m.2.2.2.1) m 0) 6 m.2.1 3 m.2.2.2.1 m.2.2.2.2.1 m.2.2.2.2.2.1
  else fence s m
def limitOf (s : SS) (first : Int32) : Int32 := ((first.toInt64) + (((s_cf s 3).toInt64 * ((1000 : Int64) - (s_cf s 4).toInt64)) / ((1000 : Int64) + (s_cf s 4).toInt64))).toInt32
def granted (s : SS) (m : MG) : SS :=
  let i := m.2.1
  let token := m.2.2.2.2.1
  if s_nd s i 3 = 0 then send s 3 i 1 token 0 0
  else if token < s_nd s i 6 then s
  else
    let limit := limitOf s m.2.2.2.1
    let s1 := if s_nd s i 6 < token then u_nd (u_nd (u_nd s i 9 0) i 6 token) i 7 limit else s
    let s2 := u_nd s1 i 7 (mx (s_nd s1 i 7) limit)
    setTimer s2 i (m.2.2.2.1 + s_cf s 5)
def atNode (s : SS) (m : MG) : SS :=
  let i := m.2.1
  if m.1 = 1 then granted s m
  else if m.1 = 2 then (if s_nd s i 3 = 0 then s else setTimer s i (ndAt s i (now s) + s_cf s 6))
  else if m.1 = 8 then (if s_nd s i 6 = m.2.2.2.1 then lose s i else s)
  else if s_nd s i 6 = m.2.2.2.1 then u_nd (u_nd s i 9 (s_nd s i 9 ||| ((1 : Int32) <<< (m.2.2.2.2.1 &&& 31)))) i (30 + m.2.2.2.2.1.toNatClampNeg) m.2.2.2.2.2.1 else s
def release (s : SS) (m : MG) : SS :=
  if m.2.2.2.1 = s_sc s 14 then
    u_sc (if s_sc s 12 = -4 then s else note s 4 (Int32.ofNat m.2.1) m.2.2.2.1) 12 (-4)
  else s
def handle (s : SS) (m : MG) : SS :=
  if m.1 = 0 then decide_ s m else if m.1 = 3 then release s m else if m.1 = 4 ∨ m.1 = 5 then atStorage s m else atNode s m
/-- the message m at the place k arrives -/
def arrive (s : SS) (k : Nat) (m : MG) : SS :=
  let s1 := u_ms s ((s_ms s).eraseIdx k)
  let i := m.2.1
  if s_nd s i 4 ≠ 0 ∨ (toNode m.1 = true ∧ s_nd s i 2 = 0) then watch (u_sc s1 11 (s_sc s 11 + 1)) m 2
  else if toNode m.1 = true ∧ paused s i (now s) = true then
    let s2 := g_add (g_mk s1 1 7) 2 (s_ms s1).length
    u_ms s2 (s_ms s1 ++ [(m.1, m.2.1, m.2.2.1, m.2.2.2.1, m.2.2.2.2.1, m.2.2.2.2.2.1, s_nd s i 5)])
  else handle s1 m
def oNext (o : OG) (t : Int32) : Int32 := if o.2.1 ≤ t then (if o.2.2 ≤ t then 2147483647 else o.2.2) else o.2.1
/-- a node's next time, taken into x -/
def ndNext (s : SS) (i : Nat) (x : Int32) : Int32 := if paused s i (now s) = true then mn x (s_nd s i 5) else if s_nd s i 2 = 0 then x else if s_nd s i 8 < 0 then x else mn x (s_nd s i 8)
def nextEvent (s : SS) : Int32 :=
  let x0 := match fmsg (s_ms s) with
    | none => 2147483647
    | some q => q.2.2.2.2.2.2.2
  let x1 := (s_dl s).foldl (fun x d => mn x d.2.2.2.2) x0
  let x2 := (s_ou s).foldl (fun x o => mn x (oNext o (now s))) x1
  (List.range (s_n s)).foldl (fun x i => ndNext s i x) x2
/-- a node passes to the time t: greatest end, second end -/
def passNd (t : Int32) (q : SS × Int32 × Int32) (i : Nat) : SS × Int32 × Int32 :=
  let e := mx (now q.1) (mn t (until_ q.1 i))
  let s1 := u_nd q.1 i 10 (s_nd q.1 i 10 + (e - now q.1))
  if e ≤ q.2.1 then (s1, q.2.1, mx q.2.2 e) else (s1, e, q.2.1)
def pass (s : SS) (t : Int32) : SS :=
  let q := (List.range (s_n s)).foldl (passNd t) (s, now s, now s)
  u_sc (u_sc (u_sc q.1 16 (s_sc q.1 16 + (q.2.2 - now q.1))) 17 (s_sc q.1 17 + (t - q.2.1))) 8 t
/-- links change, from the place k on; n is enough -/
def links : Nat → Nat → SS → SS
  | 0, _, s => s
  | n + 1, k, s => match (s_ou s)[k]? with
    | none => s
    | some o =>
      let s1 := if o.2.1 = now s then u_nd s o.1 4 1 else s
      if o.2.2 = now s1 then links n k (u_ou (u_nd s1 o.1 4 0) ((s_ou s1).eraseIdx k)) else links n (k + 1) s1
def changeLinks (s : SS) : SS := links ((s_ou s).length + 1) 0 s
def msgsNow : Nat → SS → SS
  | 0, s => s
  | n + 1, s => match fmsg (s_ms s) with
    | none => s
    | some q => if now s < q.2.2.2.2.2.2.2 then s else msgsNow n (arrive s q.1 q.2)
def delNow : Nat → Nat → SS → SS
  | 0, _, s => s
  | n + 1, k, s => match (s_dl s)[k]? with
    | none => s
    | some d => if d.2.2.2.2 ≤ now s then delNow n k (send (u_dl s ((s_dl s).eraseIdx k)) 4 d.1 3 d.2.1 (Int32.ofNat d.2.2.1) d.2.2.2.1) else delNow n (k + 1) s
def due (s : SS) (i : Nat) : Bool := s_nd s i 2 != 0 && !paused s i (now s) && decide (0 ≤ s_nd s i 8) && decide (s_nd s i 8 ≤ now s)
def timNd (s : SS) (i : Nat) : SS := if due s i = true then (if s_nd s i 3 = 0 then u_nd s i 8 (-4) else acquire s i) else s
def happen (s : SS) : SS :=
  let s1 := changeLinks s
  let s2 := msgsNow (s_ms s1).length s1
  let s3 := delNow ((s_dl s2).length + 1) 0 s2
  (List.range (s_n s3)).foldl timNd s3
def step (s : SS) (t : Int32) : SS :=
  let x := nextEvent s
  let s1 := pass s (mn x t)
  if t < x then s1 else happen s1
/-- until the time t; n is enough -/
def goOn : Nat → SS → Int32 → SS
  | 0, s, _ => s
  | n + 1, s, t => if t ≤ now s then s else goOn n (step s t) t
