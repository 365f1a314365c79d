set_option maxRecDepth 100000
/-! PURE PART 5: what both sides compute: the state SS and its steps. Scalars and arrays go by the model's field numbers. -/
/-- a stream: what the model keeps of it in the arrays 12 .. 19; its path -/
abbrev St : Type := (Nat → Int32) × List Int32
def St.num (s : St) : Int32 := s.1 12
def St.win (s : St) : Int32 := s.1 13
def St.cnt (s : St) : Int32 := s.1 14
def St.len (s : St) : Int32 := s.1 15
def St.left (s : St) : Int32 := s.1 16
def St.b (s : St) : Int32 := s.1 17
def St.closed (s : St) : Int32 := s.1 18
def St.meth (s : St) : Int32 := s.1 19
def St.path (s : St) : List Int32 := s.2
def St.set (s : St) (k : Nat) (x : Int32) : St := (upd s.1 k x, s.2)
theorem St.rw : (∀ (s : St) (k : Nat) (x : Int32), (s.set k x).num = if 12 = k then x else s.num) ∧ (∀ (s : St) (k : Nat) (x : Int32), (s.set k x).win = if 13 = k then x else s.win) ∧ (∀ (s : St) (k : Nat) (x : Int32), (s.set k x).cnt = if 14 = k then x else s.cnt) ∧ (∀ (s : St) (k : Nat) (x : Int32), (s.set k x).len = if 15 = k then x else s.len) ∧ (∀ (s : St) (k : Nat) (x : Int32), (s.set k x).left = if 16 = k then x else s.left) ∧ (∀ (s : St) (k : Nat) (x : Int32), (s.set k x).b = if 17 = k then x else s.b) ∧ (∀ (s : St) (k : Nat) (x : Int32), (s.set k x).closed = if 18 = k then x else s.closed) ∧ (∀ (s : St) (k : Nat) (x : Int32), (s.set k x).meth = if 19 = k then x else s.meth) ∧ (∀ (s : St) (k : Nat) (x : Int32), (s.set k x).path = s.path) :=
  ⟨fun _ _ _ => rfl, fun _ _ _ => rfl, fun _ _ _ => rfl, fun _ _ _ => rfl, fun _ _ _ => rfl, fun _ _ _ => rfl, fun _ _ _ => rfl, fun _ _ _ => rfl, fun _ _ _ => rfl⟩
def newSt (num win len meth : Int32) (path : List Int32) : St := (fun k => if k = 12 then num else if k = 13 then win else if k = 15 then len else if k = 19 then meth else 0, path)
/-- a page: path, size, byte -/
abbrev Pg : Type := List Int32 × Int32 × Int32
/-- an entry: name, value -/
abbrev En : Type := List Int32 × List Int32
/-- scalars, arrays (24 frame, 35 block, 54 output), pages, entries that came, streams -/
abbrev SS : Type := (Nat → Int32) × (Nat → Nat → Int32) × List Pg × List En × List St
def SS.g (s : SS) : Nat → Int32 := s.1
def SS.a (s : SS) : Nat → Nat → Int32 := s.2.1
def SS.pages (s : SS) : List Pg := s.2.2.1
def SS.came (s : SS) : List En := s.2.2.2.1
def SS.sts (s : SS) : List St := s.2.2.2.2
def SS.p (s : SS) (k : Nat) (x : Int32) : SS := (upd s.g k x, s.2)
def SS.q (s : SS) (k : Nat) (f : Nat → Int32) : SS := (s.g, va_up s.a k f, s.2.2)
def SS.wp (s : SS) (l : List Pg) : SS := (s.g, s.a, l, s.came, s.sts)
def SS.wc (s : SS) (l : List En) : SS := (s.g, s.a, s.pages, l, s.sts)
def SS.ws (s : SS) (l : List St) : SS := (s.g, s.a, s.pages, s.came, l)
theorem ssr : (∀ (s : SS) (k : Nat) (x : Int32) (j : Nat), (s.p k x).g j = if j = k then x else s.g j) ∧ (∀ (s : SS) (k : Nat) (x : Int32), (s.p k x).a = s.a) ∧ (∀ (s : SS) (k : Nat) (x : Int32), (s.p k x).pages = s.pages) ∧ (∀ (s : SS) (k : Nat) (x : Int32), (s.p k x).came = s.came) ∧ (∀ (s : SS) (k : Nat) (x : Int32), (s.p k x).sts = s.sts)
  ∧ (∀ (s : SS) (k : Nat) (f : Nat → Int32), (s.q k f).g = s.g) ∧ (∀ (s : SS) (k : Nat) (f : Nat → Int32) (j : Nat), (s.q k f).a j = if j = k then f else s.a j) ∧ (∀ (s : SS) (k : Nat) (f : Nat → Int32), (s.q k f).pages = s.pages) ∧ (∀ (s : SS) (k : Nat) (f : Nat → Int32), (s.q k f).came = s.came) ∧ (∀ (s : SS) (k : Nat) (f : Nat → Int32), (s.q k f).sts = s.sts)
  ∧ (∀ (s : SS) (l : List Pg), (s.wp l).g = s.g) ∧ (∀ (s : SS) (l : List Pg), (s.wp l).a = s.a) ∧ (∀ (s : SS) (l : List Pg), (s.wp l).pages = l) ∧ (∀ (s : SS) (l : List Pg), (s.wp l).came = s.came) ∧ (∀ (s : SS) (l : List Pg), (s.wp l).sts = s.sts)
  ∧ (∀ (s : SS) (l : List En), (s.wc l).g = s.g) ∧ (∀ (s : SS) (l : List En), (s.wc l).a = s.a) ∧ (∀ (s : SS) (l : List En), (s.wc l).pages = s.pages) ∧ (∀ (s : SS) (l : List En), (s.wc l).came = l) ∧ (∀ (s : SS) (l : List En), (s.wc l).sts = s.sts)
  ∧ (∀ (s : SS) (l : List St), (s.ws l).g = s.g) ∧ (∀ (s : SS) (l : List St), (s.ws l).a = s.a) ∧ (∀ (s : SS) (l : List St), (s.ws l).pages = s.pages) ∧ (∀ (s : SS) (l : List St), (s.ws l).came = s.came) ∧ (∀ (s : SS) (l : List St), (s.ws l).sts = l) := by
  refine ⟨?_, ?_, ?_, ?_, ?_, ?_, ?_, ?_, ?_, ?_, ?_, ?_, ?_, ?_, ?_, ?_, ?_, ?_, ?_, ?_, ?_, ?_, ?_, ?_, ?_⟩ <;> intros <;> rfl
def SS.say (b : Int32) (s : SS) : SS := (s.q 54 (upd (s.a 54) (s.g 53).toNatClampNeg (b &&& 255))).p 53 (s.g 53 + 1)
def SS.head (a b c d : Int32) (s : SS) : SS := SS.say d (SS.say c (SS.say b (SS.say a s)))
def SS.credit (st by' : Int32) (s : SS) : SS := SS.say by' (SS.say 0 (SS.head 2 8 0 st s))
def SS.goAway (why : Int32) (s : SS) : SS := (SS.say why (SS.say (s.g 47) (SS.head 2 7 0 0 s))).p 48 why
def SS.sayN : Nat → Int32 → SS → SS
  | 0, _, s => s
  | d + 1, b, s => SS.sayN d b (SS.say b s)
def SS.find (s : SS) (n : Int32) : Option St := s.sts.find? (fun st => st.num == n)
def SS.modSt (n : Int32) (f : St → St) (s : SS) : SS := s.ws (s.sts.map (fun st => if st.num = n then f st else st))
def SS.over (n : Int32) (s : SS) : SS := s.ws (s.sts.filter (fun st => st.num != n))
abbrev odd (n : Int32) : Prop := n - n / 2 * 2 = 1
/-- number 0 is not idle; an even one is, and one above the highest -/
abbrev SS.idle (s : SS) (n : Int32) : Prop := n ≠ 0 ∧ (n - n / 2 * 2 = 0 ∨ s.g 47 < n)
abbrev SS.has (s : SS) (f : Int32) : Prop := s.g 26 &&& f ≠ 0
def SS.pageAt (s : SS) (path : List Int32) : Option Pg := s.pages.foldl (fun acc q => if q.1 = path then some q else acc) none
def pgSize : Option Pg → Int32
  | some q => q.2.1
  | none => 0
def pgByte : Option Pg → Int32
  | some q => q.2.2
  | none => 0
def ansPage (st : St) (s : SS) : Option Pg := if st.meth = 2 then none else s.pageAt st.path
def ansSize (st : St) (pg : Option Pg) : Int32 := if st.meth = 0 then pgSize pg else 0
def SS.answer (st : St) (s : SS) : SS :=
  let pg := ansPage st s
  let size := ansSize st pg
  let s1 := SS.head (if st.meth = 2 then 5 else 1) 1 (if size = 0 then 5 else 4) st.num s
  let s2 := if st.meth = 2 then SS.say 53 (SS.say 48 (SS.say 52 (SS.say 3 (SS.say 6 s1)))) else SS.say (if pg.isSome then 134 else 135) s1
  let s3 := SS.modSt st.num (fun q => (q.set 16 size).set 17 (if size = 0 then 0 else pgByte pg)) s2
  if size = 0 then SS.over st.num s3 else s3
def SS.close (n : Int32) (s : SS) : Int32 × SS :=
  let s1 := SS.modSt n (fun q => q.set 18 1) s
  match s1.find n with
  | none => (0, s1)
  | some st => if st.len = -1 ∨ st.len = st.cnt then (0, s1.answer st) else (101, s1)
/-- where what is no padding lies; whether there is room for it -/
def SS.unpad (s : SS) : Bool × SS :=
  if s.has 8 then
    if 0 < s.g 28 ∧ s.a 24 4 < s.g 28 then (true, (s.p 29 1).p 30 (s.g 28 - s.a 24 4)) else (false, (s.p 29 1).p 30 (s.g 28))
  else (true, (s.p 29 0).p 30 (s.g 28))
def SS.data2 (s : SS) : Int32 × SS :=
  match s.find (s.g 27) with
  | none => (105, s)
  | some st =>
    if st.closed ≠ 0 then (105, s) else
    if 50 < s.g 28 then (103, s) else
    let s1 := SS.modSt (s.g 27) (fun q => q.set 14 (q.cnt + (s.g 30 - s.g 29))) s
    if s.has 1 then SS.close (s.g 27) s1 else if 0 < s.g 28 then (0, SS.credit (s.g 27) (s.g 28) s1) else (0, s1)
def SS.data (s : SS) : Int32 × SS :=
  if s.g 27 = 0 ∨ s.idle (s.g 27) then (1, s) else
  let u := s.unpad
  if u.1 = true then
    if 80 < s.g 28 then (3, u.2) else SS.data2 (if 0 < s.g 28 then SS.credit 0 (s.g 28) u.2 else u.2)
  else (1, u.2)
/-! the table -/
def ascii (l : List Nat) : List Int32 := l.map Int32.ofNat
def fixedE : List En := [(ascii [58, 109], ascii [71, 69, 84]), (ascii [58, 109], ascii [72, 69, 65, 68]), (ascii [58, 112], ascii [47]), (ascii [104, 111, 115, 116], []), (ascii [108, 101, 110, 103, 116, 104], []), (ascii [58, 115], ascii [50, 48, 48]), (ascii [58, 115], ascii [52, 48, 52])]
def En.takes (e : En) : Int32 := 2 + Int32.ofNat e.1.length + Int32.ofNat e.2.length
def takenL (l : List En) : Int32 := l.foldl (fun n e => n + En.takes e) 0
def evictL (size room : Int32) : Nat → List En → List En
  | 0, l => l
  | d + 1, l => if l = [] then l else if takenL l + room ≤ size then l else evictL size room d l.dropLast
def SS.evict (room : Int32) (s : SS) : SS := s.wc (evictL (s.g 7) room (s.came.length) s.came)
def SS.insert (e : En) (s : SS) : SS :=
  let s1 := SS.evict (En.takes e) s
  if En.takes e ≤ s.g 7 then s1.wc (e :: s1.came) else s1
def SS.ent (s : SS) (i : Nat) : Option En := if i = 0 then none else (fixedE ++ s.came)[i - 1]?
/-! reading a block b of n bytes at `i` -/
def rdChars (b : Nat → Int32) (n : Nat) : Nat → Nat → Option (List Int32 × Nat)
  | 0, i => some ([], i)
  | d + 1, i => if i < n then (if b i < 33 ∨ 126 < b i then none else (rdChars b n d (i + 1)).map (fun q => (b i :: q.1, q.2))) else none
def rdStr (b : Nat → Int32) (n : Nat) (least : Int32) (i : Nat) : Option (List Int32 × Nat) :=
  if i < n then (if b i < least ∨ 20 < b i then none else rdChars b n (b i).toNatClampNeg (i + 1)) else none
def SS.rdName (s : SS) (n k i : Nat) : Option (List Int32 × Nat) := if k = 0 then rdStr (s.a 35) n 1 i else (s.ent k).map (fun e => (e.1, i))
def SS.rdLit (s : SS) (n k i : Nat) : Option (En × Nat) := (s.rdName n k i).bind fun q => (rdStr (s.a 35) n 0 q.2).map fun r => ((q.1, r.1), r.2)
/-- one field, its first byte b read: the state, the fields, where it ends; nothing if it can't be read -/
def SS.rdStep (n b i : Nat) (s : SS) (fs : List En) : Option (SS × List En × Nat) :=
  if 127 < b then (s.ent (b - 128)).map (fun e => (s, fs ++ [e], i))
  else if 63 < b then (s.rdLit n (b - 64) i).map (fun q => (SS.insert q.1 s, fs ++ [q.1], q.2))
  else if 31 < b then (if fs = [] ∧ b ≤ 56 then some (SS.evict 0 (s.p 7 (Int32.ofNat (b - 32))), fs, i) else none)
  else if 15 < b then none
  else (s.rdLit n b i).map (fun q => (s, fs ++ [q.1], q.2))
def SS.rdLoop (n : Nat) : Nat → Nat → SS → List En → Bool × SS × List En
  | 0, _, s, fs => (true, s, fs)
  | d + 1, i, s, fs =>
    if i < n then
      match s.rdStep n (s.a 35 i).toNatClampNeg (i + 1) fs with
      | none => (false, s, fs)
      | some q => SS.rdLoop n d q.2.2 q.1 q.2.1
    else (true, s, fs)
def SS.readBlock (s : SS) : Bool × SS × List En := SS.rdLoop (s.g 34).toNatClampNeg ((s.g 34).toNatClampNeg) 0 s []
/-! what the fields of a request say: method, path, length, whether others came -/
abbrev Acc : Type := Option (List Int32) × Option (List Int32) × Int32 × Bool
def isLet (c : Int32) : Bool := 97 ≤ c ∧ c ≤ 122
def isDig (c : Int32) : Bool := 48 ≤ c ∧ c ≤ 57
def numOf (l : List Int32) : Int32 := l.foldl (fun v c => 10 * v + c - 48) 0
def isNum (l : List Int32) : Bool := 1 ≤ l.length ∧ l.length ≤ 3 ∧ l.all isDig = true
def methOf (l : List Int32) : Int32 := if l = ascii [71, 69, 84] then 0 else if l = ascii [72, 69, 65, 68] then 1 else 2
def judge (a : Acc) (e : En) : Option Acc :=
  if e.1 = ascii [58, 109] then (if a.2.2.2 = false ∧ a.1 = none then some (some e.2, a.2) else none)
  else if e.1 = ascii [58, 112] then (if a.2.2.2 = false ∧ a.2.1 = none then some (a.1, some e.2, a.2.2) else none)
  else if e.1.all isLet = true then
    if e.1 = ascii [108, 101, 110, 103, 116, 104] then (if a.2.2.1 = -1 ∧ isNum e.2 = true then some (a.1, a.2.1, numOf e.2, true) else none)
    else some (a.1, a.2.1, a.2.2.1, true)
  else none
def judgeAll : List En → Acc → Option Acc
  | [], a => some a
  | e :: l, a => (judge a e).bind (judgeAll l)
def acc0 : Acc := (none, none, -1, false)
def colon (l : List En) : Bool := l.any (fun e => e.1.getD 0 0 = 58)
def SS.request (fs : List En) (s : SS) : Int32 × SS :=
  let s1 := s.p 47 (s.g 27)
  if 4 ≤ s.sts.length then (107, s1) else
  match judgeAll fs acc0 with
  | some (some m, some pa, len, _) =>
    let s2 := s1.ws (s1.sts ++ [newSt (s.g 27) (s.g 51) len (methOf m) pa])
    if s.g 33 = 0 then (0, s2) else SS.close (s.g 27) s2
  | _ => (101, s1)
def SS.copyB : Nat → Nat → SS → SS
  | 0, _, s => s
  | d + 1, k, s => SS.copyB d (k + 1) ((s.q 35 (upd (s.a 35) (s.g 34).toNatClampNeg (s.a 24 (4 + k)))).p 34 (s.g 34 + 1))
def SS.more3 (fs : List En) (s : SS) : Int32 × SS :=
  match s.find (s.g 27) with
  | none => SS.request fs s
  | some st => if s.g 33 = 0 ∨ colon fs = true then (101, s) else SS.close (s.g 27) s
def SS.more2 (s : SS) : Int32 × SS :=
  if s.has 4 then
    let r := SS.readBlock (s.p 32 (-1))
    if r.1 = true then SS.more3 r.2.2 r.2.1 else (9, r.2.1)
  else (0, s)
def SS.more (s : SS) : Int32 × SS :=
  if 100 < s.g 34 + s.g 30 - s.g 29 then (9, s) else SS.more2 (SS.copyB (s.g 30 - s.g 29).toNatClampNeg (s.g 29).toNatClampNeg s)
/-- whether n is a stream whose client's side is not closed -/
def SS.isOpen (s : SS) (n : Int32) : Bool := match s.find n with
  | some st => st.closed == 0
  | none => false
def SS.headers (s : SS) : Int32 × SS :=
  if odd (s.g 27) then
    let u := s.unpad
    if u.1 = true then
      if s.g 47 < s.g 27 ∨ s.isOpen (s.g 27) = true then SS.more (((u.2.p 34 0).p 32 (s.g 27)).p 33 (if s.has 1 then 1 else 0)) else (5, u.2)
    else (1, u.2)
  else (1, s)
def SS.setLoop : Nat → Nat → SS → Int32 × SS
  | 0, _, s => (0, SS.head 0 4 1 0 s)
  | d + 1, k, s =>
    let v := s.a 24 (5 + k)
    if s.a 24 (4 + k) = 4 then SS.setLoop d (k + 2) ((s.ws (s.sts.map (fun st => st.set 13 (st.win + (v - s.g 51))))).p 51 v)
    else if s.a 24 (4 + k) = 5 then (if v < 16 then (1, s) else SS.setLoop d (k + 2) (s.p 52 v))
    else SS.setLoop d (k + 2) s
def SS.settings (s : SS) : Int32 × SS :=
  if s.g 27 = 0 then
    if s.has 1 then (if s.g 28 = 0 then (0, s) else (6, s))
    else if odd (s.g 28) then (6, s) else SS.setLoop ((s.g 28).toNatClampNeg / 2) 0 s
  else (1, s)
def SS.ping (s : SS) : Int32 × SS :=
  if s.g 27 = 0 then
    if s.g 28 = 4 then
      if s.has 1 then (0, s) else (0, SS.say (s.a 24 7) (SS.say (s.a 24 6) (SS.say (s.a 24 5) (SS.say (s.a 24 4) (SS.head 4 6 1 0 s)))))
    else (6, s)
  else (1, s)
def SS.widen (s : SS) : Int32 × SS :=
  if s.g 28 = 2 then
    if s.idle (s.g 27) then (1, s) else
    let by' := s.a 24 4 * 256 + s.a 24 5
    if s.g 27 = 0 then
      if by' = 0 then (1, s) else if 30000 < s.g 50 + by' then (3, s) else (0, s.p 50 (s.g 50 + by'))
    else match s.find (s.g 27) with
      | none => (0, s)
      | some st => if by' = 0 then (101, s) else if 30000 < st.win + by' then (103, s) else (0, SS.modSt (s.g 27) (fun q => q.set 13 (q.win + by')) s)
  else (6, s)
def SS.drop (s : SS) : Int32 × SS :=
  if s.g 28 = 1 then
    if s.g 27 = 0 ∨ s.idle (s.g 27) then (1, s) else (0, SS.over (s.g 27) s)
  else (6, s)
def SS.gone (s : SS) : Int32 × SS := if s.g 27 = 0 then (if s.g 28 = 2 then (0, s) else (6, s)) else (1, s)
def SS.look2 (s : SS) : Int32 × SS :=
  if s.g 25 = 0 then s.data else if s.g 25 = 1 then s.headers else if s.g 25 = 3 then s.drop else if s.g 25 = 4 then s.settings else if s.g 25 = 6 then s.ping else if s.g 25 = 7 then s.gone else if s.g 25 = 8 then s.widen else if s.g 25 = 9 then s.more else (0, s)
def SS.look (s : SS) : Int32 × SS :=
  if s.g 31 ≠ 0 ∧ (s.g 25 ≠ 4 ∨ s.has 1) then (1, s) else
  let s1 := s.p 31 0
  if (s.g 32 = -1 ∧ s.g 25 ≠ 9) ∨ (s.g 32 ≠ -1 ∧ s.g 25 = 9 ∧ s.g 27 = s.g 32) then SS.look2 ((s1.p 29 0).p 30 (s.g 28)) else (1, s1)
def SS.rank (s : SS) (st : St) : Int32 := if s.g 49 < st.num then st.num else st.num + 300
abbrev can (st : St) : Prop := st.left ≠ 0 ∧ 0 < st.win
/-- of two streams the one whose turn is first -/
def SS.pick (s : SS) (f : Option St) (st : St) : Option St :=
  if can st then (match f with
    | none => some st
    | some q => if s.rank st < s.rank q then some st else some q) else f
/-- the stream whose turn it is -/
def SS.turn (s : SS) : Option St := s.sts.foldl s.pick none
def imin (a b : Int32) : Int32 := if b < a then b else a
def SS.pump1 (st : St) (s : SS) : SS :=
  let n := imin (imin st.left st.win) (imin (s.g 50) (s.g 52))
  let s1 := ((SS.modSt st.num (fun q => (q.set 16 (q.left - n)).set 13 (q.win - n)) s).p 50 (s.g 50 - n)).p 49 st.num
  let s2 := SS.sayN n.toNatClampNeg st.b (SS.head n 0 (if st.left - n = 0 then 1 else 0) st.num s1)
  if st.left - n = 0 then SS.over st.num s2 else s2
def SS.pump : Nat → SS → SS
  | 0, s => s
  | d + 1, s => match s.turn with
    | none => s
    | some st => if 0 < s.g 50 then SS.pump d (SS.pump1 st s) else s
def SS.after (why : Int32) (s : SS) : SS :=
  if 100 < why then SS.over (s.g 27) (SS.say (why - 100) (SS.head 1 3 0 (s.g 27) s)) else if 0 < why then SS.goAway why s else s
def SS.whole (s : SS) : SS :=
  let r := s.look
  let s2 := SS.after r.1 r.2
  if s2.g 48 = 0 then SS.pump 300 s2 else s2
def prefaceB (k : Int32) : Int32 := if k = 0 then 80 else if k = 1 then 82 else if k = 2 then 73 else 10
def SS.byteCame (b : Int32) (s : SS) : SS :=
  if s.g 22 < 4 then
    let s1 := s.p 22 (s.g 22 + 1)
    if b = prefaceB (s.g 22) then s1 else SS.goAway 1 s1
  else
    let f := upd (s.a 24) (s.g 23).toNatClampNeg b
    let s1 := (s.q 24 f).p 23 (s.g 23 + 1)
    if s.g 23 + 1 < 4 then s1 else
    let s2 := s1.p 28 (f 0)
    if 200 < f 0 then SS.goAway 6 s2 else
    if s.g 23 + 1 < 4 + f 0 then s2 else
    SS.whole ((((s2.p 25 (f 1)).p 26 (f 2)).p 27 (f 3)).p 23 0)
def byteOf (v : Int32) (k : Nat) : Int32 := (v >>> (((8 : Int32) * Int32.ofNat k) &&& 31)) &&& 255
def SS.feedLoop (word : Int32) : Nat → SS → SS
  | 0, s => s
  | k + 1, s => if s.g 48 = 0 then SS.feedLoop word k (SS.byteCame (byteOf word k) s) else s
def SS.feed (word n : Int32) (s : SS) : Int32 × SS :=
  if n < 1 ∨ 4 < n ∨ 300 < s.g 53 then (0, s) else (1, SS.feedLoop word n.toNatClampNeg s)
def SS.restart (s : SS) : SS :=
  SS.say 4 (SS.say 3 (SS.head 2 4 0 0 ((((((((((((((((s.ws []).wc []).p 7 24).p 22 0).p 23 0).p 31 1).p 32 (-1)).p 34 0).p 47 0).p 48 0).p 49 0).p 50 100).p 51 40).p 52 64).p 53 0))))
/-! the site -/
def isText (v : Int32) : Bool := (isLet (byteOf v 3) || byteOf v 3 == 0) && (isLet (byteOf v 2) || (byteOf v 2 == 0 && byteOf v 3 == 0)) && (isLet (byteOf v 1) || (byteOf v 1 == 0 && byteOf v 2 == 0)) && (isLet (byteOf v 0) || (byteOf v 0 == 0 && byteOf v 1 == 0))
def textOf (v : Int32) : List Int32 := ([byteOf v 3, byteOf v 2, byteOf v 1, byteOf v 0]).filter (fun c => c != 0)
def pathOf (a b : Int32) : List Int32 := 47 :: (textOf a ++ textOf b)
def SS.page (a b size c : Int32) (s : SS) : Int32 × Int32 × SS :=
  if isText a = true ∧ isText b = true ∧ byteOf b 3 = 0 ∧ (b = 0 ∨ byteOf a 3 ≠ 0) ∧ 0 ≤ size ∧ size ≤ 60 ∧ 0 ≤ c ∧ c ≤ 255 then
    if (s.pageAt (pathOf a b)).isSome then (1, 0, s)
    else if s.pages.length = 8 then (2, 0, s) else (0, Int32.ofNat s.pages.length, s.wp (s.pages ++ [(pathOf a b, size, c)]))
  else (1, 0, s)
def SS.take (n : Int32) (s : SS) : SS :=
  let gone := if n < 1 then 0 else if s.g 53 < n then s.g 53 else n
  (s.q 54 (fun k => if k < (s.g 53 - gone).toNatClampNeg then s.a 54 (k + gone.toNatClampNeg) else s.a 54 k)).p 53 (s.g 53 - gone)
