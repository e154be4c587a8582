/-! method data -/
set_option maxRecDepth 100000
def mJ0_init : MD := (yJ0_init, cJ0_init, 1, none, [])
theorem wJ0_init : mword mJ0_init ∈ lw_all := q172
theorem pJ0_init : plainName mJ0_init.1.cls = true ∧ (mJ0_init.1.cls ≠ "java/lang/invoke/MethodHandle" ∧ mJ0_init.1.cls ≠ "java/lang/invoke/VarHandle") ∧ (parseMethodDescriptor mJ0_init.1.desc).map (fun d => d.parameters.length) = some 0 := by decide +kernel
def mJ0_init_2 : MD := (yJ0_init_2, cJ0_init_2, 5, none, [])
theorem wJ0_init_2 : mword mJ0_init_2 ∈ lw_all := q199
theorem pJ0_init_2 : plainName mJ0_init_2.1.cls = true ∧ (mJ0_init_2.1.cls ≠ "java/lang/invoke/MethodHandle" ∧ mJ0_init_2.1.cls ≠ "java/lang/invoke/VarHandle") ∧ (parseMethodDescriptor mJ0_init_2.1.desc).map (fun d => d.parameters.length) = some 4 := by decide +kernel
def mJ1_init : MD := (yJ1_init, cJ1_init, 5, none, [])
theorem wJ1_init : mword mJ1_init ∈ lw_all := q196
theorem pJ1_init : plainName mJ1_init.1.cls = true ∧ (mJ1_init.1.cls ≠ "java/lang/invoke/MethodHandle" ∧ mJ1_init.1.cls ≠ "java/lang/invoke/VarHandle") ∧ (parseMethodDescriptor mJ1_init.1.desc).map (fun d => d.parameters.length) = some 4 := by decide +kernel
def mJ2_init : MD := (yJ2_init, cJ2_init, 5, none, [])
theorem wJ2_init : mword mJ2_init ∈ lw_all := q193
theorem pJ2_init : plainName mJ2_init.1.cls = true ∧ (mJ2_init.1.cls ≠ "java/lang/invoke/MethodHandle" ∧ mJ2_init.1.cls ≠ "java/lang/invoke/VarHandle") ∧ (parseMethodDescriptor mJ2_init.1.desc).map (fun d => d.parameters.length) = some 4 := by decide +kernel
def mJ3_max : MD := (yJ3_max, cJ3_max, 2, (some (.int)), [])
theorem wJ3_max : mword mJ3_max ∈ lw_all := q691
def mJ3_min : MD := (yJ3_min, cJ3_min, 2, (some (.int)), [])
theorem wJ3_min : mword mJ3_min ∈ lw_all := q1151
def mJ4_init : MD := (yJ4_init, cJ4_init, 1, none, [])
theorem wJ4_init : mword mJ4_init ∈ lw_all := q145
def mX0_act : MD := (yX0_act, cX0_act, 5, (some (.int)), [])
theorem wX0_act : mword mX0_act ∈ lw_all := q919
theorem pX0_act : plainName mX0_act.1.cls = true ∧ (mX0_act.1.cls ≠ "java/lang/invoke/MethodHandle" ∧ mX0_act.1.cls ≠ "java/lang/invoke/VarHandle") ∧ (parseMethodDescriptor mX0_act.1.desc).map (fun d => d.parameters.length) = some 3 := by decide +kernel
def mX0_add : MD := (yX0_add, cX0_add, 3, none, [])
theorem wX0_add : mword mX0_add ∈ lw_all := q404
theorem pX0_add : plainName mX0_add.1.cls = true ∧ (mX0_add.1.cls ≠ "java/lang/invoke/MethodHandle" ∧ mX0_add.1.cls ≠ "java/lang/invoke/VarHandle") ∧ (parseMethodDescriptor mX0_add.1.desc).map (fun d => d.parameters.length) = some 1 := by decide +kernel
def mX0_apart : MD := (yX0_apart, cX0_apart, 6, (some (.int)), [])
theorem wX0_apart : mword mX0_apart ∈ lw_all := q780
theorem pX0_apart : plainName mX0_apart.1.cls = true ∧ (mX0_apart.1.cls ≠ "java/lang/invoke/MethodHandle" ∧ mX0_apart.1.cls ≠ "java/lang/invoke/VarHandle") ∧ (parseMethodDescriptor mX0_apart.1.desc).map (fun d => d.parameters.length) = some 2 := by decide +kernel
def mX0_asAheadOf : MD := (yX0_asAheadOf, cX0_asAheadOf, 3, none, [])
theorem wX0_asAheadOf : mword mX0_asAheadOf ∈ lw_all := q748
theorem pX0_asAheadOf : plainName mX0_asAheadOf.1.cls = true ∧ (mX0_asAheadOf.1.cls ≠ "java/lang/invoke/MethodHandle" ∧ mX0_asAheadOf.1.cls ≠ "java/lang/invoke/VarHandle") ∧ (parseMethodDescriptor mX0_asAheadOf.1.desc).map (fun d => d.parameters.length) = some 1 := by decide +kernel
def mX0_asNamed : MD := (yX0_asNamed, cX0_asNamed, 2, none, [])
theorem wX0_asNamed : mword mX0_asNamed ∈ lw_all := q664
theorem pX0_asNamed : plainName mX0_asNamed.1.cls = true ∧ (mX0_asNamed.1.cls ≠ "java/lang/invoke/MethodHandle" ∧ mX0_asNamed.1.cls ≠ "java/lang/invoke/VarHandle") ∧ (parseMethodDescriptor mX0_asNamed.1.desc).map (fun d => d.parameters.length) = some 0 := by decide +kernel
def mX0_back : MD := (yX0_back, cX0_back, 2, (some (.int)), [])
theorem wX0_back : mword mX0_back ∈ lw_all := q805
theorem pX0_back : plainName mX0_back.1.cls = true ∧ (mX0_back.1.cls ≠ "java/lang/invoke/MethodHandle" ∧ mX0_back.1.cls ≠ "java/lang/invoke/VarHandle") ∧ (parseMethodDescriptor mX0_back.1.desc).map (fun d => d.parameters.length) = some 0 := by decide +kernel
def mX0_bearersOf : MD := (yX0_bearersOf, cX0_bearersOf, 4, (some (.int)), [])
theorem wX0_bearersOf : mword mX0_bearersOf ∈ lw_all := q504
theorem pX0_bearersOf : plainName mX0_bearersOf.1.cls = true ∧ (mX0_bearersOf.1.cls ≠ "java/lang/invoke/MethodHandle" ∧ mX0_bearersOf.1.cls ≠ "java/lang/invoke/VarHandle") ∧ (parseMethodDescriptor mX0_bearersOf.1.desc).map (fun d => d.parameters.length) = some 1 := by decide +kernel
def mX0_become : MD := (yX0_become, cX0_become, 6, (some (.int)), [])
theorem wX0_become : mword mX0_become ∈ lw_all := q486
theorem pX0_become : plainName mX0_become.1.cls = true ∧ (mX0_become.1.cls ≠ "java/lang/invoke/MethodHandle" ∧ mX0_become.1.cls ≠ "java/lang/invoke/VarHandle") ∧ (parseMethodDescriptor mX0_become.1.desc).map (fun d => d.parameters.length) = some 2 := by decide +kernel
def mX0_bit : MD := (yX0_bit, cX0_bit, 1, (some (.int)), [])
theorem wX0_bit : mword mX0_bit ∈ lw_all := q507
theorem pX0_bit : plainName mX0_bit.1.cls = true ∧ (mX0_bit.1.cls ≠ "java/lang/invoke/MethodHandle" ∧ mX0_bit.1.cls ≠ "java/lang/invoke/VarHandle") ∧ (parseMethodDescriptor mX0_bit.1.desc).map (fun d => d.parameters.length) = some 1 := by decide +kernel
def mX0_body : MD := (yX0_body, cX0_body, 2, (some (.int)), [])
theorem wX0_body : mword mX0_body ∈ lw_all := q809
theorem pX0_body : plainName mX0_body.1.cls = true ∧ (mX0_body.1.cls ≠ "java/lang/invoke/MethodHandle" ∧ mX0_body.1.cls ≠ "java/lang/invoke/VarHandle") ∧ (parseMethodDescriptor mX0_body.1.desc).map (fun d => d.parameters.length) = some 1 := by decide +kernel
def mX0_count : MD := (yX0_count, cX0_count, 2, (some (.int)), [])
theorem wX0_count : mword mX0_count ∈ lw_all := q1254
theorem pX0_count : plainName mX0_count.1.cls = true ∧ (mX0_count.1.cls ≠ "java/lang/invoke/MethodHandle" ∧ mX0_count.1.cls ≠ "java/lang/invoke/VarHandle") ∧ (parseMethodDescriptor mX0_count.1.desc).map (fun d => d.parameters.length) = some 1 := by decide +kernel
def mX0_doLive : MD := (yX0_doLive, cX0_doLive, 4, (some (.boolean)), [])
theorem wX0_doLive : mword mX0_doLive ∈ lw_all := q443
theorem pX0_doLive : plainName mX0_doLive.1.cls = true ∧ (mX0_doLive.1.cls ≠ "java/lang/invoke/MethodHandle" ∧ mX0_doLive.1.cls ≠ "java/lang/invoke/VarHandle") ∧ (parseMethodDescriptor mX0_doLive.1.desc).map (fun d => d.parameters.length) = some 3 := by decide +kernel
def mX0_doesCount : MD := (yX0_doesCount, cX0_doesCount, 2, (some (.boolean)), [])
theorem wX0_doesCount : mword mX0_doesCount ∈ lw_all := q517
theorem pX0_doesCount : plainName mX0_doesCount.1.cls = true ∧ (mX0_doesCount.1.cls ≠ "java/lang/invoke/MethodHandle" ∧ mX0_doesCount.1.cls ≠ "java/lang/invoke/VarHandle") ∧ (parseMethodDescriptor mX0_doesCount.1.desc).map (fun d => d.parameters.length) = some 1 := by decide +kernel
def mX0_doesHold : MD := (yX0_doesHold, cX0_doesHold, 5, (some (.boolean)), [])
theorem wX0_doesHold : mword mX0_doesHold ∈ lw_all := q684
theorem pX0_doesHold : plainName mX0_doesHold.1.cls = true ∧ (mX0_doesHold.1.cls ≠ "java/lang/invoke/MethodHandle" ∧ mX0_doesHold.1.cls ≠ "java/lang/invoke/VarHandle") ∧ (parseMethodDescriptor mX0_doesHold.1.desc).map (fun d => d.parameters.length) = some 3 := by decide +kernel
def mX0_element : MD := (yX0_element, cX0_element, 4, (some (.long)), [])
theorem wX0_element : mword mX0_element ∈ lw_all := q1179
theorem pX0_element : plainName mX0_element.1.cls = true ∧ (mX0_element.1.cls ≠ "java/lang/invoke/MethodHandle" ∧ mX0_element.1.cls ≠ "java/lang/invoke/VarHandle") ∧ (parseMethodDescriptor mX0_element.1.desc).map (fun d => d.parameters.length) = some 2 := by decide +kernel
def mX0_expect : MD := (yX0_expect, cX0_expect, 2, none, [])
theorem wX0_expect : mword mX0_expect ∈ lw_all := q625
theorem pX0_expect : plainName mX0_expect.1.cls = true ∧ (mX0_expect.1.cls ≠ "java/lang/invoke/MethodHandle" ∧ mX0_expect.1.cls ≠ "java/lang/invoke/VarHandle") ∧ (parseMethodDescriptor mX0_expect.1.desc).map (fun d => d.parameters.length) = some 1 := by decide +kernel
def mX0_fame : MD := (yX0_fame, cX0_fame, 4, (some (.int)), [])
theorem wX0_fame : mword mX0_fame ∈ lw_all := q478
theorem pX0_fame : plainName mX0_fame.1.cls = true ∧ (mX0_fame.1.cls ≠ "java/lang/invoke/MethodHandle" ∧ mX0_fame.1.cls ≠ "java/lang/invoke/VarHandle") ∧ (parseMethodDescriptor mX0_fame.1.desc).map (fun d => d.parameters.length) = some 2 := by decide +kernel
def mX0_feed : MD := (yX0_feed, cX0_feed, 2, (some (.int)), [])
theorem wX0_feed : mword mX0_feed ∈ lw_all := q364
theorem pX0_feed : plainName mX0_feed.1.cls = true ∧ (mX0_feed.1.cls ≠ "java/lang/invoke/MethodHandle" ∧ mX0_feed.1.cls ≠ "java/lang/invoke/VarHandle") ∧ (parseMethodDescriptor mX0_feed.1.desc).map (fun d => d.parameters.length) = some 1 := by decide +kernel
def mX0_free : MD := (yX0_free, cX0_free, 2, (some (.int)), [])
theorem wX0_free : mword mX0_free ∈ lw_all := q718
theorem pX0_free : plainName mX0_free.1.cls = true ∧ (mX0_free.1.cls ≠ "java/lang/invoke/MethodHandle" ∧ mX0_free.1.cls ≠ "java/lang/invoke/VarHandle") ∧ (parseMethodDescriptor mX0_free.1.desc).map (fun d => d.parameters.length) = some 1 := by decide +kernel
def mX0_freeIn : MD := (yX0_freeIn, cX0_freeIn, 4, (some (.int)), [])
theorem wX0_freeIn : mword mX0_freeIn ∈ lw_all := q722
theorem pX0_freeIn : plainName mX0_freeIn.1.cls = true ∧ (mX0_freeIn.1.cls ≠ "java/lang/invoke/MethodHandle" ∧ mX0_freeIn.1.cls ≠ "java/lang/invoke/VarHandle") ∧ (parseMethodDescriptor mX0_freeIn.1.desc).map (fun d => d.parameters.length) = some 1 := by decide +kernel
def mX0_freed : MD := (yX0_freed, cX0_freed, 5, (some (.int)), [])
theorem wX0_freed : mword mX0_freed ∈ lw_all := q788
theorem pX0_freed : plainName mX0_freed.1.cls = true ∧ (mX0_freed.1.cls ≠ "java/lang/invoke/MethodHandle" ∧ mX0_freed.1.cls ≠ "java/lang/invoke/VarHandle") ∧ (parseMethodDescriptor mX0_freed.1.desc).map (fun d => d.parameters.length) = some 2 := by decide +kernel
def mX0_give : MD := (yX0_give, cX0_give, 4, (some (.int)), [])
theorem wX0_give : mword mX0_give ∈ lw_all := q741
theorem pX0_give : plainName mX0_give.1.cls = true ∧ (mX0_give.1.cls ≠ "java/lang/invoke/MethodHandle" ∧ mX0_give.1.cls ≠ "java/lang/invoke/VarHandle") ∧ (parseMethodDescriptor mX0_give.1.desc).map (fun d => d.parameters.length) = some 2 := by decide +kernel
def mX0_givenIn : MD := (yX0_givenIn, cX0_givenIn, 8, (some (.int)), [])
theorem wX0_givenIn : mword mX0_givenIn ∈ lw_all := q752
theorem pX0_givenIn : plainName mX0_givenIn.1.cls = true ∧ (mX0_givenIn.1.cls ≠ "java/lang/invoke/MethodHandle" ∧ mX0_givenIn.1.cls ≠ "java/lang/invoke/VarHandle") ∧ (parseMethodDescriptor mX0_givenIn.1.desc).map (fun d => d.parameters.length) = some 2 := by decide +kernel
def mX0_hearing : MD := (yX0_hearing, cX0_hearing, 3, (some (.int)), [])
theorem wX0_hearing : mword mX0_hearing ∈ lw_all := q469
theorem pX0_hearing : plainName mX0_hearing.1.cls = true ∧ (mX0_hearing.1.cls ≠ "java/lang/invoke/MethodHandle" ∧ mX0_hearing.1.cls ≠ "java/lang/invoke/VarHandle") ∧ (parseMethodDescriptor mX0_hearing.1.desc).map (fun d => d.parameters.length) = some 1 := by decide +kernel
def mX0_held : MD := (yX0_held, cX0_held, 4, (some (.int)), [])
theorem wX0_held : mword mX0_held ∈ lw_all := q660
theorem pX0_held : plainName mX0_held.1.cls = true ∧ (mX0_held.1.cls ≠ "java/lang/invoke/MethodHandle" ∧ mX0_held.1.cls ≠ "java/lang/invoke/VarHandle") ∧ (parseMethodDescriptor mX0_held.1.desc).map (fun d => d.parameters.length) = some 3 := by decide +kernel
def mX0_holders : MD := (yX0_holders, cX0_holders, 5, (some (.int)), [])
theorem wX0_holders : mword mX0_holders ∈ lw_all := q680
theorem pX0_holders : plainName mX0_holders.1.cls = true ∧ (mX0_holders.1.cls ≠ "java/lang/invoke/MethodHandle" ∧ mX0_holders.1.cls ≠ "java/lang/invoke/VarHandle") ∧ (parseMethodDescriptor mX0_holders.1.desc).map (fun d => d.parameters.length) = some 2 := by decide +kernel
def mX0_holdsFor : MD := (yX0_holdsFor, cX0_holdsFor, 6, (some (.boolean)), [])
theorem wX0_holdsFor : mword mX0_holdsFor ∈ lw_all := q688
theorem pX0_holdsFor : plainName mX0_holdsFor.1.cls = true ∧ (mX0_holdsFor.1.cls ≠ "java/lang/invoke/MethodHandle" ∧ mX0_holdsFor.1.cls ≠ "java/lang/invoke/VarHandle") ∧ (parseMethodDescriptor mX0_holdsFor.1.desc).map (fun d => d.parameters.length) = some 4 := by decide +kernel
def mX0_image : MD := (yX0_image, cX0_image, 2, (some (.int)), [])
theorem wX0_image : mword mX0_image ∈ lw_all := q801
theorem pX0_image : plainName mX0_image.1.cls = true ∧ (mX0_image.1.cls ≠ "java/lang/invoke/MethodHandle" ∧ mX0_image.1.cls ≠ "java/lang/invoke/VarHandle") ∧ (parseMethodDescriptor mX0_image.1.desc).map (fun d => d.parameters.length) = some 0 := by decide +kernel
def mX0_init : MD := (yX0_init, cX0_init, 2, none, [])
theorem wX0_init : mword mX0_init ∈ lw_all := q142
theorem pX0_init : plainName mX0_init.1.cls = true ∧ (mX0_init.1.cls ≠ "java/lang/invoke/MethodHandle" ∧ mX0_init.1.cls ≠ "java/lang/invoke/VarHandle") ∧ (parseMethodDescriptor mX0_init.1.desc).map (fun d => d.parameters.length) = some 0 := by decide +kernel
def mX0_isBody : MD := (yX0_isBody, cX0_isBody, 2, (some (.boolean)), [])
theorem wX0_isBody : mword mX0_isBody ∈ lw_all := q923
theorem pX0_isBody : plainName mX0_isBody.1.cls = true ∧ (mX0_isBody.1.cls ≠ "java/lang/invoke/MethodHandle" ∧ mX0_isBody.1.cls ≠ "java/lang/invoke/VarHandle") ∧ (parseMethodDescriptor mX0_isBody.1.desc).map (fun d => d.parameters.length) = some 1 := by decide +kernel
def mX0_isDigit : MD := (yX0_isDigit, cX0_isDigit, 1, (some (.boolean)), [])
theorem wX0_isDigit : mword mX0_isDigit ∈ lw_all := q573
theorem pX0_isDigit : plainName mX0_isDigit.1.cls = true ∧ (mX0_isDigit.1.cls ≠ "java/lang/invoke/MethodHandle" ∧ mX0_isDigit.1.cls ≠ "java/lang/invoke/VarHandle") ∧ (parseMethodDescriptor mX0_isDigit.1.desc).map (fun d => d.parameters.length) = some 0 := by decide +kernel
def mX0_isFamed : MD := (yX0_isFamed, cX0_isFamed, 4, (some (.boolean)), [])
theorem wX0_isFamed : mword mX0_isFamed ∈ lw_all := q676
theorem pX0_isFamed : plainName mX0_isFamed.1.cls = true ∧ (mX0_isFamed.1.cls ≠ "java/lang/invoke/MethodHandle" ∧ mX0_isFamed.1.cls ≠ "java/lang/invoke/VarHandle") ∧ (parseMethodDescriptor mX0_isFamed.1.desc).map (fun d => d.parameters.length) = some 2 := by decide +kernel
def mX0_isFreeWithout : MD := (yX0_isFreeWithout, cX0_isFreeWithout, 4, (some (.boolean)), [])
theorem wX0_isFreeWithout : mword mX0_isFreeWithout ∈ lw_all := q784
theorem pX0_isFreeWithout : plainName mX0_isFreeWithout.1.cls = true ∧ (mX0_isFreeWithout.1.cls ≠ "java/lang/invoke/MethodHandle" ∧ mX0_isFreeWithout.1.cls ≠ "java/lang/invoke/VarHandle") ∧ (parseMethodDescriptor mX0_isFreeWithout.1.desc).map (fun d => d.parameters.length) = some 3 := by decide +kernel
def mX0_isHeld : MD := (yX0_isHeld, cX0_isHeld, 3, (some (.boolean)), [])
theorem wX0_isHeld : mword mX0_isHeld ∈ lw_all := q672
theorem pX0_isHeld : plainName mX0_isHeld.1.cls = true ∧ (mX0_isHeld.1.cls ≠ "java/lang/invoke/MethodHandle" ∧ mX0_isHeld.1.cls ≠ "java/lang/invoke/VarHandle") ∧ (parseMethodDescriptor mX0_isHeld.1.desc).map (fun d => d.parameters.length) = some 2 := by decide +kernel
def mX0_isIn : MD := (yX0_isIn, cX0_isIn, 2, (some (.boolean)), [])
theorem wX0_isIn : mword mX0_isIn ∈ lw_all := q656
theorem pX0_isIn : plainName mX0_isIn.1.cls = true ∧ (mX0_isIn.1.cls ≠ "java/lang/invoke/MethodHandle" ∧ mX0_isIn.1.cls ≠ "java/lang/invoke/VarHandle") ∧ (parseMethodDescriptor mX0_isIn.1.desc).map (fun d => d.parameters.length) = some 2 := by decide +kernel
def mX0_isMeeting : MD := (yX0_isMeeting, cX0_isMeeting, 2, (some (.boolean)), [])
theorem wX0_isMeeting : mword mX0_isMeeting ∈ lw_all := q513
theorem pX0_isMeeting : plainName mX0_isMeeting.1.cls = true ∧ (mX0_isMeeting.1.cls ≠ "java/lang/invoke/MethodHandle" ∧ mX0_isMeeting.1.cls ≠ "java/lang/invoke/VarHandle") ∧ (parseMethodDescriptor mX0_isMeeting.1.desc).map (fun d => d.parameters.length) = some 1 := by decide +kernel
def mX0_isName : MD := (yX0_isName, cX0_isName, 1, (some (.boolean)), [])
theorem wX0_isName : mword mX0_isName ∈ lw_all := q430
theorem pX0_isName : plainName mX0_isName.1.cls = true ∧ (mX0_isName.1.cls ≠ "java/lang/invoke/MethodHandle" ∧ mX0_isName.1.cls ≠ "java/lang/invoke/VarHandle") ∧ (parseMethodDescriptor mX0_isName.1.desc).map (fun d => d.parameters.length) = some 1 := by decide +kernel
def mX0_isPerson : MD := (yX0_isPerson, cX0_isPerson, 2, (some (.boolean)), [])
theorem wX0_isPerson : mword mX0_isPerson ∈ lw_all := q439
theorem pX0_isPerson : plainName mX0_isPerson.1.cls = true ∧ (mX0_isPerson.1.cls ≠ "java/lang/invoke/MethodHandle" ∧ mX0_isPerson.1.cls ≠ "java/lang/invoke/VarHandle") ∧ (parseMethodDescriptor mX0_isPerson.1.desc).map (fun d => d.parameters.length) = some 1 := by decide +kernel
def mX0_isShelf : MD := (yX0_isShelf, cX0_isShelf, 1, (some (.boolean)), [])
theorem wX0_isShelf : mword mX0_isShelf ∈ lw_all := q411
theorem pX0_isShelf : plainName mX0_isShelf.1.cls = true ∧ (mX0_isShelf.1.cls ≠ "java/lang/invoke/MethodHandle" ∧ mX0_isShelf.1.cls ≠ "java/lang/invoke/VarHandle") ∧ (parseMethodDescriptor mX0_isShelf.1.desc).map (fun d => d.parameters.length) = some 1 := by decide +kernel
def mX0_isWay : MD := (yX0_isWay, cX0_isWay, 1, (some (.boolean)), [])
theorem wX0_isWay : mword mX0_isWay ∈ lw_all := q744
theorem pX0_isWay : plainName mX0_isWay.1.cls = true ∧ (mX0_isWay.1.cls ≠ "java/lang/invoke/MethodHandle" ∧ mX0_isWay.1.cls ≠ "java/lang/invoke/VarHandle") ∧ (parseMethodDescriptor mX0_isWay.1.desc).map (fun d => d.parameters.length) = some 1 := by decide +kernel
def mX0_isYear : MD := (yX0_isYear, cX0_isYear, 1, (some (.boolean)), [])
theorem wX0_isYear : mword mX0_isYear ∈ lw_all := q378
theorem pX0_isYear : plainName mX0_isYear.1.cls = true ∧ (mX0_isYear.1.cls ≠ "java/lang/invoke/MethodHandle" ∧ mX0_isYear.1.cls ≠ "java/lang/invoke/VarHandle") ∧ (parseMethodDescriptor mX0_isYear.1.desc).map (fun d => d.parameters.length) = some 1 := by decide +kernel
def mX0_judge : MD := (yX0_judge, cX0_judge, 3, (some (.int)), [])
theorem wX0_judge : mword mX0_judge ∈ lw_all := q733
theorem pX0_judge : plainName mX0_judge.1.cls = true ∧ (mX0_judge.1.cls ≠ "java/lang/invoke/MethodHandle" ∧ mX0_judge.1.cls ≠ "java/lang/invoke/VarHandle") ∧ (parseMethodDescriptor mX0_judge.1.desc).map (fun d => d.parameters.length) = some 0 := by decide +kernel
def mX0_keep : MD := (yX0_keep, cX0_keep, 3, (some (.int)), [])
theorem wX0_keep : mword mX0_keep ∈ lw_all := q1155
theorem pX0_keep : plainName mX0_keep.1.cls = true ∧ (mX0_keep.1.cls ≠ "java/lang/invoke/MethodHandle" ∧ mX0_keep.1.cls ≠ "java/lang/invoke/VarHandle") ∧ (parseMethodDescriptor mX0_keep.1.desc).map (fun d => d.parameters.length) = some 2 := by decide +kernel
def mX0_knowUpTo : MD := (yX0_knowUpTo, cX0_knowUpTo, 8, none, [])
theorem wX0_knowUpTo : mword mX0_knowUpTo ∈ lw_all := q653
theorem pX0_knowUpTo : plainName mX0_knowUpTo.1.cls = true ∧ (mX0_knowUpTo.1.cls ≠ "java/lang/invoke/MethodHandle" ∧ mX0_knowUpTo.1.cls ≠ "java/lang/invoke/VarHandle") ∧ (parseMethodDescriptor mX0_knowUpTo.1.desc).map (fun d => d.parameters.length) = some 2 := by decide +kernel
def mX0_knows : MD := (yX0_knows, cX0_knows, 3, (some (.int)), [])
theorem wX0_knows : mword mX0_knows ∈ lw_all := q649
theorem pX0_knows : plainName mX0_knows.1.cls = true ∧ (mX0_knows.1.cls ≠ "java/lang/invoke/MethodHandle" ∧ mX0_knows.1.cls ≠ "java/lang/invoke/VarHandle") ∧ (parseMethodDescriptor mX0_knows.1.desc).map (fun d => d.parameters.length) = some 2 := by decide +kernel
def mX0_latestHeld : MD := (yX0_latestHeld, cX0_latestHeld, 4, (some (.int)), [])
theorem wX0_latestHeld : mword mX0_latestHeld ∈ lw_all := q760
theorem pX0_latestHeld : plainName mX0_latestHeld.1.cls = true ∧ (mX0_latestHeld.1.cls ≠ "java/lang/invoke/MethodHandle" ∧ mX0_latestHeld.1.cls ≠ "java/lang/invoke/VarHandle") ∧ (parseMethodDescriptor mX0_latestHeld.1.desc).map (fun d => d.parameters.length) = some 2 := by decide +kernel
def mX0_law : MD := (yX0_law, cX0_law, 4, (some (.int)), [(5, 15, 22, 41), (5, 15, 38, 0), (22, 31, 38, 0)])
theorem wX0_law : mword mX0_law ∈ lw_all := q521
theorem pX0_law : plainName mX0_law.1.cls = true ∧ (mX0_law.1.cls ≠ "java/lang/invoke/MethodHandle" ∧ mX0_law.1.cls ≠ "java/lang/invoke/VarHandle") ∧ (parseMethodDescriptor mX0_law.1.desc).map (fun d => d.parameters.length) = some 0 := by decide +kernel
def mX0_made : MD := (yX0_made, cX0_made, 2, (some (.object "NameRests$Body")), [])
theorem wX0_made : mword mX0_made ∈ lw_all := q814
theorem pX0_made : plainName mX0_made.1.cls = true ∧ (mX0_made.1.cls ≠ "java/lang/invoke/MethodHandle" ∧ mX0_made.1.cls ≠ "java/lang/invoke/VarHandle") ∧ (parseMethodDescriptor mX0_made.1.desc).map (fun d => d.parameters.length) = some 1 := by decide +kernel
def mX0_mayLive : MD := (yX0_mayLive, cX0_mayLive, 2, (some (.boolean)), [])
theorem wX0_mayLive : mword mX0_mayLive ∈ lw_all := q375
theorem pX0_mayLive : plainName mX0_mayLive.1.cls = true ∧ (mX0_mayLive.1.cls ≠ "java/lang/invoke/MethodHandle" ∧ mX0_mayLive.1.cls ≠ "java/lang/invoke/VarHandle") ∧ (parseMethodDescriptor mX0_mayLive.1.desc).map (fun d => d.parameters.length) = some 2 := by decide +kernel
def mX0_meet : MD := (yX0_meet, cX0_meet, 4, (some (.int)), [])
theorem wX0_meet : mword mX0_meet ∈ lw_all := q435
theorem pX0_meet : plainName mX0_meet.1.cls = true ∧ (mX0_meet.1.cls ≠ "java/lang/invoke/MethodHandle" ∧ mX0_meet.1.cls ≠ "java/lang/invoke/VarHandle") ∧ (parseMethodDescriptor mX0_meet.1.desc).map (fun d => d.parameters.length) = some 2 := by decide +kernel
def mX0_mend : MD := (yX0_mend, cX0_mend, 4, (some (.int)), [])
theorem wX0_mend : mword mX0_mend ∈ lw_all := q482
theorem pX0_mend : plainName mX0_mend.1.cls = true ∧ (mX0_mend.1.cls ≠ "java/lang/invoke/MethodHandle" ∧ mX0_mend.1.cls ≠ "java/lang/invoke/VarHandle") ∧ (parseMethodDescriptor mX0_mend.1.desc).map (fun d => d.parameters.length) = some 3 := by decide +kernel
def mX0_most : MD := (yX0_most, cX0_most, 6, (some (.int)), [])
theorem wX0_most : mword mX0_most ∈ lw_all := q726
theorem pX0_most : plainName mX0_most.1.cls = true ∧ (mX0_most.1.cls ≠ "java/lang/invoke/MethodHandle" ∧ mX0_most.1.cls ≠ "java/lang/invoke/VarHandle") ∧ (parseMethodDescriptor mX0_most.1.desc).map (fun d => d.parameters.length) = some 1 := by decide +kernel
def mX0_name : MD := (yX0_name, cX0_name, 4, (some (.int)), [])
theorem wX0_name : mword mX0_name ∈ lw_all := q473
theorem pX0_name : plainName mX0_name.1.cls = true ∧ (mX0_name.1.cls ≠ "java/lang/invoke/MethodHandle" ∧ mX0_name.1.cls ≠ "java/lang/invoke/VarHandle") ∧ (parseMethodDescriptor mX0_name.1.desc).map (fun d => d.parameters.length) = some 2 := by decide +kernel
def mX0_nameAll : MD := (yX0_nameAll, cX0_nameAll, 4, none, [])
theorem wX0_nameAll : mword mX0_nameAll ∈ lw_all := q768
theorem pX0_nameAll : plainName mX0_nameAll.1.cls = true ∧ (mX0_nameAll.1.cls ≠ "java/lang/invoke/MethodHandle" ∧ mX0_nameAll.1.cls ≠ "java/lang/invoke/VarHandle") ∧ (parseMethodDescriptor mX0_nameAll.1.desc).map (fun d => d.parameters.length) = some 1 := by decide +kernel
def mX0_nameOf : MD := (yX0_nameOf, cX0_nameOf, 1, (some (.int)), [])
theorem wX0_nameOf : mword mX0_nameOf ∈ lw_all := q595
theorem pX0_nameOf : plainName mX0_nameOf.1.cls = true ∧ (mX0_nameOf.1.cls ≠ "java/lang/invoke/MethodHandle" ∧ mX0_nameOf.1.cls ≠ "java/lang/invoke/VarHandle") ∧ (parseMethodDescriptor mX0_nameOf.1.desc).map (fun d => d.parameters.length) = some 1 := by decide +kernel
def mX0_namedMany : MD := (yX0_namedMany, cX0_namedMany, 3, (some (.int)), [])
theorem wX0_namedMany : mword mX0_namedMany ∈ lw_all := q1258
theorem pX0_namedMany : plainName mX0_namedMany.1.cls = true ∧ (mX0_namedMany.1.cls ≠ "java/lang/invoke/MethodHandle" ∧ mX0_namedMany.1.cls ≠ "java/lang/invoke/VarHandle") ∧ (parseMethodDescriptor mX0_namedMany.1.desc).map (fun d => d.parameters.length) = some 0 := by decide +kernel
def mX0_namesUsed : MD := (yX0_namesUsed, cX0_namesUsed, 3, (some (.int)), [])
theorem wX0_namesUsed : mword mX0_namesUsed ∈ lw_all := q776
theorem pX0_namesUsed : plainName mX0_namesUsed.1.cls = true ∧ (mX0_namesUsed.1.cls ≠ "java/lang/invoke/MethodHandle" ∧ mX0_namesUsed.1.cls ≠ "java/lang/invoke/VarHandle") ∧ (parseMethodDescriptor mX0_namesUsed.1.desc).map (fun d => d.parameters.length) = some 0 := by decide +kernel
def mX0_needs : MD := (yX0_needs, cX0_needs, 9, (some (.int)), [])
theorem wX0_needs : mword mX0_needs ∈ lw_all := q796
theorem pX0_needs : plainName mX0_needs.1.cls = true ∧ (mX0_needs.1.cls ≠ "java/lang/invoke/MethodHandle" ∧ mX0_needs.1.cls ≠ "java/lang/invoke/VarHandle") ∧ (parseMethodDescriptor mX0_needs.1.desc).map (fun d => d.parameters.length) = some 3 := by decide +kernel
def mX0_never : MD := (yX0_never, cX0_never, 6, (some (.int)), [])
theorem wX0_never : mword mX0_never ∈ lw_all := q792
theorem pX0_never : plainName mX0_never.1.cls = true ∧ (mX0_never.1.cls ≠ "java/lang/invoke/MethodHandle" ∧ mX0_never.1.cls ≠ "java/lang/invoke/VarHandle") ∧ (parseMethodDescriptor mX0_never.1.desc).map (fun d => d.parameters.length) = some 1 := by decide +kernel
def mX0_nobodyBears : MD := (yX0_nobodyBears, cX0_nobodyBears, 2, none, [])
theorem wX0_nobodyBears : mword mX0_nobodyBears ∈ lw_all := q737
theorem pX0_nobodyBears : plainName mX0_nobodyBears.1.cls = true ∧ (mX0_nobodyBears.1.cls ≠ "java/lang/invoke/MethodHandle" ∧ mX0_nobodyBears.1.cls ≠ "java/lang/invoke/VarHandle") ∧ (parseMethodDescriptor mX0_nobodyBears.1.desc).map (fun d => d.parameters.length) = some 0 := by decide +kernel
def mX0_of : MD := (yX0_of, cX0_of, 3, (some (.int)), [])
theorem wX0_of : mword mX0_of ∈ lw_all := q491
theorem pX0_of : plainName mX0_of.1.cls = true ∧ (mX0_of.1.cls ≠ "java/lang/invoke/MethodHandle" ∧ mX0_of.1.cls ≠ "java/lang/invoke/VarHandle") ∧ (parseMethodDescriptor mX0_of.1.desc).map (fun d => d.parameters.length) = some 2 := by decide +kernel
def mX0_ofPerson : MD := (yX0_ofPerson, cX0_ofPerson, 3, (some (.int)), [])
theorem wX0_ofPerson : mword mX0_ofPerson ∈ lw_all := q495
theorem pX0_ofPerson : plainName mX0_ofPerson.1.cls = true ∧ (mX0_ofPerson.1.cls ≠ "java/lang/invoke/MethodHandle" ∧ mX0_ofPerson.1.cls ≠ "java/lang/invoke/VarHandle") ∧ (parseMethodDescriptor mX0_ofPerson.1.desc).map (fun d => d.parameters.length) = some 2 := by decide +kernel
def mX0_ones : MD := (yX0_ones, cX0_ones, 3, (some (.int)), [])
theorem wX0_ones : mword mX0_ones ∈ lw_all := q729
theorem pX0_ones : plainName mX0_ones.1.cls = true ∧ (mX0_ones.1.cls ≠ "java/lang/invoke/MethodHandle" ∧ mX0_ones.1.cls ≠ "java/lang/invoke/VarHandle") ∧ (parseMethodDescriptor mX0_ones.1.desc).map (fun d => d.parameters.length) = some 1 := by decide +kernel
def mX0_peek : MD := (yX0_peek, cX0_peek, 1, (some (.int)), [])
theorem wX0_peek : mword mX0_peek ∈ lw_all := q577
theorem pX0_peek : plainName mX0_peek.1.cls = true ∧ (mX0_peek.1.cls ≠ "java/lang/invoke/MethodHandle" ∧ mX0_peek.1.cls ≠ "java/lang/invoke/VarHandle") ∧ (parseMethodDescriptor mX0_peek.1.desc).map (fun d => d.parameters.length) = some 0 := by decide +kernel
def mX0_people : MD := (yX0_people, cX0_people, 13, (some (.int)), [(54, 178, 181, 73)])
theorem wX0_people : mword mX0_people ∈ lw_all := q408
theorem pX0_people : plainName mX0_people.1.cls = true ∧ (mX0_people.1.cls ≠ "java/lang/invoke/MethodHandle" ∧ mX0_people.1.cls ≠ "java/lang/invoke/VarHandle") ∧ (parseMethodDescriptor mX0_people.1.desc).map (fun d => d.parameters.length) = some 3 := by decide +kernel
def mX0_person : MD := (yX0_person, cX0_person, 3, (some (.int)), [])
theorem wX0_person : mword mX0_person ∈ lw_all := q372
theorem pX0_person : plainName mX0_person.1.cls = true ∧ (mX0_person.1.cls ≠ "java/lang/invoke/MethodHandle" ∧ mX0_person.1.cls ≠ "java/lang/invoke/VarHandle") ∧ (parseMethodDescriptor mX0_person.1.desc).map (fun d => d.parameters.length) = some 2 := by decide +kernel
def mX0_placeOf : MD := (yX0_placeOf, cX0_placeOf, 3, (some (.int)), [])
theorem wX0_placeOf : mword mX0_placeOf ∈ lw_all := q499
theorem pX0_placeOf : plainName mX0_placeOf.1.cls = true ∧ (mX0_placeOf.1.cls ≠ "java/lang/invoke/MethodHandle" ∧ mX0_placeOf.1.cls ≠ "java/lang/invoke/VarHandle") ∧ (parseMethodDescriptor mX0_placeOf.1.desc).map (fun d => d.parameters.length) = some 1 := by decide +kernel
def mX0_put : MD := (yX0_put, cX0_put, 7, (some (.int)), [])
theorem wX0_put : mword mX0_put ∈ lw_all := q1168
theorem pX0_put : plainName mX0_put.1.cls = true ∧ (mX0_put.1.cls ≠ "java/lang/invoke/MethodHandle" ∧ mX0_put.1.cls ≠ "java/lang/invoke/VarHandle") ∧ (parseMethodDescriptor mX0_put.1.desc).map (fun d => d.parameters.length) = some 3 := by decide +kernel
def mX0_rank : MD := (yX0_rank, cX0_rank, 4, (some (.int)), [])
theorem wX0_rank : mword mX0_rank ∈ lw_all := q756
theorem pX0_rank : plainName mX0_rank.1.cls = true ∧ (mX0_rank.1.cls ≠ "java/lang/invoke/MethodHandle" ∧ mX0_rank.1.cls ≠ "java/lang/invoke/VarHandle") ∧ (parseMethodDescriptor mX0_rank.1.desc).map (fun d => d.parameters.length) = some 3 := by decide +kernel
def mX0_readAll : MD := (yX0_readAll, cX0_readAll, 2, (some (.object "NameRests$Term")), [])
theorem wX0_readAll : mword mX0_readAll ∈ lw_all := q553
theorem pX0_readAll : plainName mX0_readAll.1.cls = true ∧ (mX0_readAll.1.cls ≠ "java/lang/invoke/MethodHandle" ∧ mX0_readAll.1.cls ≠ "java/lang/invoke/VarHandle") ∧ (parseMethodDescriptor mX0_readAll.1.desc).map (fun d => d.parameters.length) = some 0 := by decide +kernel
def mX0_readEither : MD := (yX0_readEither, cX0_readEither, 2, (some (.object "NameRests$Term")), [])
theorem wX0_readEither : mword mX0_readEither ∈ lw_all := q549
theorem pX0_readEither : plainName mX0_readEither.1.cls = true ∧ (mX0_readEither.1.cls ≠ "java/lang/invoke/MethodHandle" ∧ mX0_readEither.1.cls ≠ "java/lang/invoke/VarHandle") ∧ (parseMethodDescriptor mX0_readEither.1.desc).map (fun d => d.parameters.length) = some 0 := by decide +kernel
def mX0_readLaw : MD := (yX0_readLaw, cX0_readLaw, 3, (some (.object "NameRests$Line")), [])
theorem wX0_readLaw : mword mX0_readLaw ∈ lw_all := q525
theorem pX0_readLaw : plainName mX0_readLaw.1.cls = true ∧ (mX0_readLaw.1.cls ≠ "java/lang/invoke/MethodHandle" ∧ mX0_readLaw.1.cls ≠ "java/lang/invoke/VarHandle") ∧ (parseMethodDescriptor mX0_readLaw.1.desc).map (fun d => d.parameters.length) = some 0 := by decide +kernel
def mX0_readLike : MD := (yX0_readLike, cX0_readLike, 3, (some (.object "NameRests$Term")), [])
theorem wX0_readLike : mword mX0_readLike ∈ lw_all := q557
theorem pX0_readLike : plainName mX0_readLike.1.cls = true ∧ (mX0_readLike.1.cls ≠ "java/lang/invoke/MethodHandle" ∧ mX0_readLike.1.cls ≠ "java/lang/invoke/VarHandle") ∧ (parseMethodDescriptor mX0_readLike.1.desc).map (fun d => d.parameters.length) = some 0 := by decide +kernel
def mX0_readLine : MD := (yX0_readLine, cX0_readLine, 2, (some (.object "NameRests$Line")), [])
theorem wX0_readLine : mword mX0_readLine ∈ lw_all := q529
theorem pX0_readLine : plainName mX0_readLine.1.cls = true ∧ (mX0_readLine.1.cls ≠ "java/lang/invoke/MethodHandle" ∧ mX0_readLine.1.cls ≠ "java/lang/invoke/VarHandle") ∧ (parseMethodDescriptor mX0_readLine.1.desc).map (fun d => d.parameters.length) = some 0 := by decide +kernel
def mX0_readOne : MD := (yX0_readOne, cX0_readOne, 4, (some (.object "NameRests$Term")), [])
theorem wX0_readOne : mword mX0_readOne ∈ lw_all := q569
theorem pX0_readOne : plainName mX0_readOne.1.cls = true ∧ (mX0_readOne.1.cls ≠ "java/lang/invoke/MethodHandle" ∧ mX0_readOne.1.cls ≠ "java/lang/invoke/VarHandle") ∧ (parseMethodDescriptor mX0_readOne.1.desc).map (fun d => d.parameters.length) = some 0 := by decide +kernel
def mX0_readPlus : MD := (yX0_readPlus, cX0_readPlus, 3, (some (.object "NameRests$Term")), [])
theorem wX0_readPlus : mword mX0_readPlus ∈ lw_all := q561
theorem pX0_readPlus : plainName mX0_readPlus.1.cls = true ∧ (mX0_readPlus.1.cls ≠ "java/lang/invoke/MethodHandle" ∧ mX0_readPlus.1.cls ≠ "java/lang/invoke/VarHandle") ∧ (parseMethodDescriptor mX0_readPlus.1.desc).map (fun d => d.parameters.length) = some 0 := by decide +kernel
def mX0_readTimes : MD := (yX0_readTimes, cX0_readTimes, 3, (some (.object "NameRests$Term")), [])
theorem wX0_readTimes : mword mX0_readTimes ∈ lw_all := q565
theorem pX0_readTimes : plainName mX0_readTimes.1.cls = true ∧ (mX0_readTimes.1.cls ≠ "java/lang/invoke/MethodHandle" ∧ mX0_readTimes.1.cls ≠ "java/lang/invoke/VarHandle") ∧ (parseMethodDescriptor mX0_readTimes.1.desc).map (fun d => d.parameters.length) = some 0 := by decide +kernel
def mX0_redo : MD := (yX0_redo, cX0_redo, 1, (some (.int)), [])
theorem wX0_redo : mword mX0_redo ∈ lw_all := q137
theorem pX0_redo : plainName mX0_redo.1.cls = true ∧ (mX0_redo.1.cls ≠ "java/lang/invoke/MethodHandle" ∧ mX0_redo.1.cls ≠ "java/lang/invoke/VarHandle") ∧ (parseMethodDescriptor mX0_redo.1.desc).map (fun d => d.parameters.length) = some 0 := by decide +kernel
def mX0_refusal : MD := (yX0_refusal, cX0_refusal, 4, (some (.int)), [])
theorem wX0_refusal : mword mX0_refusal ∈ lw_all := q1172
theorem pX0_refusal : plainName mX0_refusal.1.cls = true ∧ (mX0_refusal.1.cls ≠ "java/lang/invoke/MethodHandle" ∧ mX0_refusal.1.cls ≠ "java/lang/invoke/VarHandle") ∧ (parseMethodDescriptor mX0_refusal.1.desc).map (fun d => d.parameters.length) = some 2 := by decide +kernel
def mX0_row : MD := (yX0_row, cX0_row, 4, (some (.int)), [])
theorem wX0_row : mword mX0_row ∈ lw_all := q1159
theorem pX0_row : plainName mX0_row.1.cls = true ∧ (mX0_row.1.cls ≠ "java/lang/invoke/MethodHandle" ∧ mX0_row.1.cls ≠ "java/lang/invoke/VarHandle") ∧ (parseMethodDescriptor mX0_row.1.desc).map (fun d => d.parameters.length) = some 3 := by decide +kernel
def mX0_ruled : MD := (yX0_ruled, cX0_ruled, 2, (some (.boolean)), [])
theorem wX0_ruled : mword mX0_ruled ∈ lw_all := q695
theorem pX0_ruled : plainName mX0_ruled.1.cls = true ∧ (mX0_ruled.1.cls ≠ "java/lang/invoke/MethodHandle" ∧ mX0_ruled.1.cls ≠ "java/lang/invoke/VarHandle") ∧ (parseMethodDescriptor mX0_ruled.1.desc).map (fun d => d.parameters.length) = some 0 := by decide +kernel
def mX0_run : MD := (yX0_run, cX0_run, 3, (some (.int)), [])
theorem wX0_run : mword mX0_run ∈ lw_all := q764
theorem pX0_run : plainName mX0_run.1.cls = true ∧ (mX0_run.1.cls ≠ "java/lang/invoke/MethodHandle" ∧ mX0_run.1.cls ≠ "java/lang/invoke/VarHandle") ∧ (parseMethodDescriptor mX0_run.1.desc).map (fun d => d.parameters.length) = some 2 := by decide +kernel
def mX0_shift : MD := (yX0_shift, cX0_shift, 8, (some (.int)), [])
theorem wX0_shift : mword mX0_shift ∈ lw_all := q1184
theorem pX0_shift : plainName mX0_shift.1.cls = true ∧ (mX0_shift.1.cls ≠ "java/lang/invoke/MethodHandle" ∧ mX0_shift.1.cls ≠ "java/lang/invoke/VarHandle") ∧ (parseMethodDescriptor mX0_shift.1.desc).map (fun d => d.parameters.length) = some 5 := by decide +kernel
def mX0_sizeOf : MD := (yX0_sizeOf, cX0_sizeOf, 1, (some (.int)), [])
theorem wX0_sizeOf : mword mX0_sizeOf ∈ lw_all := q1175
theorem pX0_sizeOf : plainName mX0_sizeOf.1.cls = true ∧ (mX0_sizeOf.1.cls ≠ "java/lang/invoke/MethodHandle" ∧ mX0_sizeOf.1.cls ≠ "java/lang/invoke/VarHandle") ∧ (parseMethodDescriptor mX0_sizeOf.1.desc).map (fun d => d.parameters.length) = some 1 := by decide +kernel
def mX0_sortOf : MD := (yX0_sortOf, cX0_sortOf, 1, (some (.int)), [])
theorem wX0_sortOf : mword mX0_sortOf ∈ lw_all := q416
theorem pX0_sortOf : plainName mX0_sortOf.1.cls = true ∧ (mX0_sortOf.1.cls ≠ "java/lang/invoke/MethodHandle" ∧ mX0_sortOf.1.cls ≠ "java/lang/invoke/VarHandle") ∧ (parseMethodDescriptor mX0_sortOf.1.desc).map (fun d => d.parameters.length) = some 1 := by decide +kernel
def mX0_take : MD := (yX0_take, cX0_take, 2, (some (.boolean)), [])
theorem wX0_take : mword mX0_take ∈ lw_all := q629
theorem pX0_take : plainName mX0_take.1.cls = true ∧ (mX0_take.1.cls ≠ "java/lang/invoke/MethodHandle" ∧ mX0_take.1.cls ≠ "java/lang/invoke/VarHandle") ∧ (parseMethodDescriptor mX0_take.1.desc).map (fun d => d.parameters.length) = some 1 := by decide +kernel
def mX0_taken : MD := (yX0_taken, cX0_taken, 5, (some (.int)), [])
theorem wX0_taken : mword mX0_taken ∈ lw_all := q1191
theorem pX0_taken : plainName mX0_taken.1.cls = true ∧ (mX0_taken.1.cls ≠ "java/lang/invoke/MethodHandle" ∧ mX0_taken.1.cls ≠ "java/lang/invoke/VarHandle") ∧ (parseMethodDescriptor mX0_taken.1.desc).map (fun d => d.parameters.length) = some 2 := by decide +kernel
def mX0_tillOf : MD := (yX0_tillOf, cX0_tillOf, 4, (some (.int)), [])
theorem wX0_tillOf : mword mX0_tillOf ∈ lw_all := q668
theorem pX0_tillOf : plainName mX0_tillOf.1.cls = true ∧ (mX0_tillOf.1.cls ≠ "java/lang/invoke/MethodHandle" ∧ mX0_tillOf.1.cls ≠ "java/lang/invoke/VarHandle") ∧ (parseMethodDescriptor mX0_tillOf.1.desc).map (fun d => d.parameters.length) = some 2 := by decide +kernel
def mX0_toldIn : MD := (yX0_toldIn, cX0_toldIn, 4, (some (.int)), [])
theorem wX0_toldIn : mword mX0_toldIn ∈ lw_all := q426
theorem pX0_toldIn : plainName mX0_toldIn.1.cls = true ∧ (mX0_toldIn.1.cls ≠ "java/lang/invoke/MethodHandle" ∧ mX0_toldIn.1.cls ≠ "java/lang/invoke/VarHandle") ∧ (parseMethodDescriptor mX0_toldIn.1.desc).map (fun d => d.parameters.length) = some 2 := by decide +kernel
def mX0_trace : MD := (yX0_trace, cX0_trace, 2, (some (.int)), [])
theorem wX0_trace : mword mX0_trace ∈ lw_all := q1148
theorem pX0_trace : plainName mX0_trace.1.cls = true ∧ (mX0_trace.1.cls ≠ "java/lang/invoke/MethodHandle" ∧ mX0_trace.1.cls ≠ "java/lang/invoke/VarHandle") ∧ (parseMethodDescriptor mX0_trace.1.desc).map (fun d => d.parameters.length) = some 1 := by decide +kernel
def mX0_undo : MD := (yX0_undo, cX0_undo, 1, (some (.int)), [])
theorem wX0_undo : mword mX0_undo ∈ lw_all := q133
theorem pX0_undo : plainName mX0_undo.1.cls = true ∧ (mX0_undo.1.cls ≠ "java/lang/invoke/MethodHandle" ∧ mX0_undo.1.cls ≠ "java/lang/invoke/VarHandle") ∧ (parseMethodDescriptor mX0_undo.1.desc).map (fun d => d.parameters.length) = some 0 := by decide +kernel
def mX0_used : MD := (yX0_used, cX0_used, 6, (some (.int)), [])
theorem wX0_used : mword mX0_used ∈ lw_all := q772
theorem pX0_used : plainName mX0_used.1.cls = true ∧ (mX0_used.1.cls ≠ "java/lang/invoke/MethodHandle" ∧ mX0_used.1.cls ≠ "java/lang/invoke/VarHandle") ∧ (parseMethodDescriptor mX0_used.1.desc).map (fun d => d.parameters.length) = some 2 := by decide +kernel
def mX0_within : MD := (yX0_within, cX0_within, 6, (some (.boolean)), [])
theorem wX0_within : mword mX0_within ∈ lw_all := q368
theorem pX0_within : plainName mX0_within.1.cls = true ∧ (mX0_within.1.cls ≠ "java/lang/invoke/MethodHandle" ∧ mX0_within.1.cls ≠ "java/lang/invoke/VarHandle") ∧ (parseMethodDescriptor mX0_within.1.desc).map (fun d => d.parameters.length) = some 3 := by decide +kernel
def mX1_init : MD := (yX1_init, cX1_init, 1, none, [])
theorem wX1_init : mword mX1_init ∈ lw_all := q190
theorem pX1_init : plainName mX1_init.1.cls = true ∧ (mX1_init.1.cls ≠ "java/lang/invoke/MethodHandle" ∧ mX1_init.1.cls ≠ "java/lang/invoke/VarHandle") ∧ (parseMethodDescriptor mX1_init.1.desc).map (fun d => d.parameters.length) = some 0 := by decide +kernel
def mX2_init : MD := (yX2_init, cX2_init, 1, none, [])
theorem wX2_init : mword mX2_init ∈ lw_all := q231
theorem pX2_init : plainName mX2_init.1.cls = true ∧ (mX2_init.1.cls ≠ "java/lang/invoke/MethodHandle" ∧ mX2_init.1.cls ≠ "java/lang/invoke/VarHandle") ∧ (parseMethodDescriptor mX2_init.1.desc).map (fun d => d.parameters.length) = some 0 := by decide +kernel
def mX3_init : MD := (yX3_init, cX3_init, 1, none, [])
theorem wX3_init : mword mX3_init ∈ lw_all := q242
theorem pX3_init : plainName mX3_init.1.cls = true ∧ (mX3_init.1.cls ≠ "java/lang/invoke/MethodHandle" ∧ mX3_init.1.cls ≠ "java/lang/invoke/VarHandle") ∧ (parseMethodDescriptor mX3_init.1.desc).map (fun d => d.parameters.length) = some 0 := by decide +kernel
def mX4_init : MD := (yX4_init, cX4_init, 1, none, [])
theorem wX4_init : mword mX4_init ∈ lw_all := q257
theorem pX4_init : plainName mX4_init.1.cls = true ∧ (mX4_init.1.cls ≠ "java/lang/invoke/MethodHandle" ∧ mX4_init.1.cls ≠ "java/lang/invoke/VarHandle") ∧ (parseMethodDescriptor mX4_init.1.desc).map (fun d => d.parameters.length) = some 0 := by decide +kernel
def mX5_act : MD := (yX5_act, cX5_act, 4, (some (.int)), [])
theorem wX5_act : mword mX5_act ∈ lw_all := q1716
theorem pX5_act : plainName mX5_act.1.cls = true ∧ (mX5_act.1.cls ≠ "java/lang/invoke/MethodHandle" ∧ mX5_act.1.cls ≠ "java/lang/invoke/VarHandle") ∧ (parseMethodDescriptor mX5_act.1.desc).map (fun d => d.parameters.length) = some 3 := by decide +kernel
def mX5_addPerson : MD := (yX5_addPerson, cX5_addPerson, 4, (some (.int)), [])
theorem wX5_addPerson : mword mX5_addPerson ∈ lw_all := q1422
theorem pX5_addPerson : plainName mX5_addPerson.1.cls = true ∧ (mX5_addPerson.1.cls ≠ "java/lang/invoke/MethodHandle" ∧ mX5_addPerson.1.cls ≠ "java/lang/invoke/VarHandle") ∧ (parseMethodDescriptor mX5_addPerson.1.desc).map (fun d => d.parameters.length) = some 3 := by decide +kernel
def mX5_addStep : MD := (yX5_addStep, cX5_addStep, 3, none, [])
theorem wX5_addStep : mword mX5_addStep ∈ lw_all := q1553
theorem pX5_addStep : plainName mX5_addStep.1.cls = true ∧ (mX5_addStep.1.cls ≠ "java/lang/invoke/MethodHandle" ∧ mX5_addStep.1.cls ≠ "java/lang/invoke/VarHandle") ∧ (parseMethodDescriptor mX5_addStep.1.desc).map (fun d => d.parameters.length) = some 2 := by decide +kernel
def mX5_aheadOf : MD := (yX5_aheadOf, cX5_aheadOf, 4, (some (.int)), [])
theorem wX5_aheadOf : mword mX5_aheadOf ∈ lw_all := q1647
theorem pX5_aheadOf : plainName mX5_aheadOf.1.cls = true ∧ (mX5_aheadOf.1.cls ≠ "java/lang/invoke/MethodHandle" ∧ mX5_aheadOf.1.cls ≠ "java/lang/invoke/VarHandle") ∧ (parseMethodDescriptor mX5_aheadOf.1.desc).map (fun d => d.parameters.length) = some 1 := by decide +kernel
def mX5_apart : MD := (yX5_apart, cX5_apart, 6, (some (.int)), [])
theorem wX5_apart : mword mX5_apart ∈ lw_all := q1679
theorem pX5_apart : plainName mX5_apart.1.cls = true ∧ (mX5_apart.1.cls ≠ "java/lang/invoke/MethodHandle" ∧ mX5_apart.1.cls ≠ "java/lang/invoke/VarHandle") ∧ (parseMethodDescriptor mX5_apart.1.desc).map (fun d => d.parameters.length) = some 2 := by decide +kernel
def mX5_asNamed : MD := (yX5_asNamed, cX5_asNamed, 2, none, [])
theorem wX5_asNamed : mword mX5_asNamed ∈ lw_all := q1581
theorem pX5_asNamed : plainName mX5_asNamed.1.cls = true ∧ (mX5_asNamed.1.cls ≠ "java/lang/invoke/MethodHandle" ∧ mX5_asNamed.1.cls ≠ "java/lang/invoke/VarHandle") ∧ (parseMethodDescriptor mX5_asNamed.1.desc).map (fun d => d.parameters.length) = some 0 := by decide +kernel
def mX5_back : MD := (yX5_back, cX5_back, 2, (some (.int)), [])
theorem wX5_back : mword mX5_back ∈ lw_all := q1704
theorem pX5_back : plainName mX5_back.1.cls = true ∧ (mX5_back.1.cls ≠ "java/lang/invoke/MethodHandle" ∧ mX5_back.1.cls ≠ "java/lang/invoke/VarHandle") ∧ (parseMethodDescriptor mX5_back.1.desc).map (fun d => d.parameters.length) = some 0 := by decide +kernel
def mX5_bearersOf : MD := (yX5_bearersOf, cX5_bearersOf, 4, (some (.int)), [])
theorem wX5_bearersOf : mword mX5_bearersOf ∈ lw_all := q1498
theorem pX5_bearersOf : plainName mX5_bearersOf.1.cls = true ∧ (mX5_bearersOf.1.cls ≠ "java/lang/invoke/MethodHandle" ∧ mX5_bearersOf.1.cls ≠ "java/lang/invoke/VarHandle") ∧ (parseMethodDescriptor mX5_bearersOf.1.desc).map (fun d => d.parameters.length) = some 1 := by decide +kernel
def mX5_bears : MD := (yX5_bears, cX5_bears, 5, (some (.boolean)), [])
theorem wX5_bears : mword mX5_bears ∈ lw_all := q1597
theorem pX5_bears : plainName mX5_bears.1.cls = true ∧ (mX5_bears.1.cls ≠ "java/lang/invoke/MethodHandle" ∧ mX5_bears.1.cls ≠ "java/lang/invoke/VarHandle") ∧ (parseMethodDescriptor mX5_bears.1.desc).map (fun d => d.parameters.length) = some 4 := by decide +kernel
def mX5_bitsOf : MD := (yX5_bitsOf, cX5_bitsOf, 3, (some (.int)), [])
theorem wX5_bitsOf : mword mX5_bitsOf ∈ lw_all := q1635
theorem pX5_bitsOf : plainName mX5_bitsOf.1.cls = true ∧ (mX5_bitsOf.1.cls ≠ "java/lang/invoke/MethodHandle" ∧ mX5_bitsOf.1.cls ≠ "java/lang/invoke/VarHandle") ∧ (parseMethodDescriptor mX5_bitsOf.1.desc).map (fun d => d.parameters.length) = some 1 := by decide +kernel
def mX5_body : MD := (yX5_body, cX5_body, 2, (some (.int)), [])
theorem wX5_body : mword mX5_body ∈ lw_all := q1712
theorem pX5_body : plainName mX5_body.1.cls = true ∧ (mX5_body.1.cls ≠ "java/lang/invoke/MethodHandle" ∧ mX5_body.1.cls ≠ "java/lang/invoke/VarHandle") ∧ (parseMethodDescriptor mX5_body.1.desc).map (fun d => d.parameters.length) = some 1 := by decide +kernel
def mX5_both : MD := (yX5_both, cX5_both, 1, none, [])
theorem wX5_both : mword mX5_both ∈ lw_all := q1526
theorem pX5_both : plainName mX5_both.1.cls = true ∧ (mX5_both.1.cls ≠ "java/lang/invoke/MethodHandle" ∧ mX5_both.1.cls ≠ "java/lang/invoke/VarHandle") ∧ (parseMethodDescriptor mX5_both.1.desc).map (fun d => d.parameters.length) = some 0 := by decide +kernel
def mX5_changes : MD := (yX5_changes, cX5_changes, 6, (some (.int)), [])
theorem wX5_changes : mword mX5_changes ∈ lw_all := q1478
theorem pX5_changes : plainName mX5_changes.1.cls = true ∧ (mX5_changes.1.cls ≠ "java/lang/invoke/MethodHandle" ∧ mX5_changes.1.cls ≠ "java/lang/invoke/VarHandle") ∧ (parseMethodDescriptor mX5_changes.1.desc).map (fun d => d.parameters.length) = some 3 := by decide +kernel
def mX5_compared : MD := (yX5_compared, cX5_compared, 2, none, [])
theorem wX5_compared : mword mX5_compared ∈ lw_all := q1530
theorem pX5_compared : plainName mX5_compared.1.cls = true ∧ (mX5_compared.1.cls ≠ "java/lang/invoke/MethodHandle" ∧ mX5_compared.1.cls ≠ "java/lang/invoke/VarHandle") ∧ (parseMethodDescriptor mX5_compared.1.desc).map (fun d => d.parameters.length) = some 0 := by decide +kernel
def mX5_count : MD := (yX5_count, cX5_count, 2, (some (.int)), [])
theorem wX5_count : mword mX5_count ∈ lw_all := q1775
theorem pX5_count : plainName mX5_count.1.cls = true ∧ (mX5_count.1.cls ≠ "java/lang/invoke/MethodHandle" ∧ mX5_count.1.cls ≠ "java/lang/invoke/VarHandle") ∧ (parseMethodDescriptor mX5_count.1.desc).map (fun d => d.parameters.length) = some 1 := by decide +kernel
def mX5_counts : MD := (yX5_counts, cX5_counts, 2, (some (.boolean)), [])
theorem wX5_counts : mword mX5_counts ∈ lw_all := q1502
theorem pX5_counts : plainName mX5_counts.1.cls = true ∧ (mX5_counts.1.cls ≠ "java/lang/invoke/MethodHandle" ∧ mX5_counts.1.cls ≠ "java/lang/invoke/VarHandle") ∧ (parseMethodDescriptor mX5_counts.1.desc).map (fun d => d.parameters.length) = some 1 := by decide +kernel
def mX5_doesHold : MD := (yX5_doesHold, cX5_doesHold, 6, (some (.boolean)), [])
theorem wX5_doesHold : mword mX5_doesHold ∈ lw_all := q1605
theorem pX5_doesHold : plainName mX5_doesHold.1.cls = true ∧ (mX5_doesHold.1.cls ≠ "java/lang/invoke/MethodHandle" ∧ mX5_doesHold.1.cls ≠ "java/lang/invoke/VarHandle") ∧ (parseMethodDescriptor mX5_doesHold.1.desc).map (fun d => d.parameters.length) = some 4 := by decide +kernel
def mX5_either : MD := (yX5_either, cX5_either, 1, none, [])
theorem wX5_either : mword mX5_either ∈ lw_all := q1522
theorem pX5_either : plainName mX5_either.1.cls = true ∧ (mX5_either.1.cls ≠ "java/lang/invoke/MethodHandle" ∧ mX5_either.1.cls ≠ "java/lang/invoke/VarHandle") ∧ (parseMethodDescriptor mX5_either.1.desc).map (fun d => d.parameters.length) = some 0 := by decide +kernel
def mX5_element : MD := (yX5_element, cX5_element, 3, (some (.long)), [])
theorem wX5_element : mword mX5_element ∈ lw_all := q1799
theorem pX5_element : plainName mX5_element.1.cls = true ∧ (mX5_element.1.cls ≠ "java/lang/invoke/MethodHandle" ∧ mX5_element.1.cls ≠ "java/lang/invoke/VarHandle") ∧ (parseMethodDescriptor mX5_element.1.desc).map (fun d => d.parameters.length) = some 2 := by decide +kernel
def mX5_everybody : MD := (yX5_everybody, cX5_everybody, 1, (some (.int)), [])
theorem wX5_everybody : mword mX5_everybody ∈ lw_all := q1585
theorem pX5_everybody : plainName mX5_everybody.1.cls = true ∧ (mX5_everybody.1.cls ≠ "java/lang/invoke/MethodHandle" ∧ mX5_everybody.1.cls ≠ "java/lang/invoke/VarHandle") ∧ (parseMethodDescriptor mX5_everybody.1.desc).map (fun d => d.parameters.length) = some 0 := by decide +kernel
def mX5_fame : MD := (yX5_fame, cX5_fame, 4, (some (.int)), [])
theorem wX5_fame : mword mX5_fame ∈ lw_all := q1455
theorem pX5_fame : plainName mX5_fame.1.cls = true ∧ (mX5_fame.1.cls ≠ "java/lang/invoke/MethodHandle" ∧ mX5_fame.1.cls ≠ "java/lang/invoke/VarHandle") ∧ (parseMethodDescriptor mX5_fame.1.desc).map (fun d => d.parameters.length) = some 2 := by decide +kernel
def mX5_faulty : MD := (yX5_faulty, cX5_faulty, 1, none, [])
theorem wX5_faulty : mword mX5_faulty ∈ lw_all := q1561
theorem pX5_faulty : plainName mX5_faulty.1.cls = true ∧ (mX5_faulty.1.cls ≠ "java/lang/invoke/MethodHandle" ∧ mX5_faulty.1.cls ≠ "java/lang/invoke/VarHandle") ∧ (parseMethodDescriptor mX5_faulty.1.desc).map (fun d => d.parameters.length) = some 0 := by decide +kernel
def mX5_feed : MD := (yX5_feed, cX5_feed, 2, (some (.int)), [])
theorem wX5_feed : mword mX5_feed ∈ lw_all := q1506
theorem pX5_feed : plainName mX5_feed.1.cls = true ∧ (mX5_feed.1.cls ≠ "java/lang/invoke/MethodHandle" ∧ mX5_feed.1.cls ≠ "java/lang/invoke/VarHandle") ∧ (parseMethodDescriptor mX5_feed.1.desc).map (fun d => d.parameters.length) = some 1 := by decide +kernel
def mX5_figure : MD := (yX5_figure, cX5_figure, 3, none, [])
theorem wX5_figure : mword mX5_figure ∈ lw_all := q1565
theorem pX5_figure : plainName mX5_figure.1.cls = true ∧ (mX5_figure.1.cls ≠ "java/lang/invoke/MethodHandle" ∧ mX5_figure.1.cls ≠ "java/lang/invoke/VarHandle") ∧ (parseMethodDescriptor mX5_figure.1.desc).map (fun d => d.parameters.length) = some 0 := by decide +kernel
def mX5_findKnown : MD := (yX5_findKnown, cX5_findKnown, 8, none, [])
theorem wX5_findKnown : mword mX5_findKnown ∈ lw_all := q1573
theorem pX5_findKnown : plainName mX5_findKnown.1.cls = true ∧ (mX5_findKnown.1.cls ≠ "java/lang/invoke/MethodHandle" ∧ mX5_findKnown.1.cls ≠ "java/lang/invoke/VarHandle") ∧ (parseMethodDescriptor mX5_findKnown.1.desc).map (fun d => d.parameters.length) = some 2 := by decide +kernel
def mX5_free : MD := (yX5_free, cX5_free, 2, (some (.int)), [])
theorem wX5_free : mword mX5_free ∈ lw_all := q1624
theorem pX5_free : plainName mX5_free.1.cls = true ∧ (mX5_free.1.cls ≠ "java/lang/invoke/MethodHandle" ∧ mX5_free.1.cls ≠ "java/lang/invoke/VarHandle") ∧ (parseMethodDescriptor mX5_free.1.desc).map (fun d => d.parameters.length) = some 1 := by decide +kernel
def mX5_freed : MD := (yX5_freed, cX5_freed, 5, (some (.int)), [])
theorem wX5_freed : mword mX5_freed ∈ lw_all := q1687
theorem pX5_freed : plainName mX5_freed.1.cls = true ∧ (mX5_freed.1.cls ≠ "java/lang/invoke/MethodHandle" ∧ mX5_freed.1.cls ≠ "java/lang/invoke/VarHandle") ∧ (parseMethodDescriptor mX5_freed.1.desc).map (fun d => d.parameters.length) = some 2 := by decide +kernel
def mX5_give : MD := (yX5_give, cX5_give, 4, (some (.int)), [])
theorem wX5_give : mword mX5_give ∈ lw_all := q1651
theorem pX5_give : plainName mX5_give.1.cls = true ∧ (mX5_give.1.cls ≠ "java/lang/invoke/MethodHandle" ∧ mX5_give.1.cls ≠ "java/lang/invoke/VarHandle") ∧ (parseMethodDescriptor mX5_give.1.desc).map (fun d => d.parameters.length) = some 2 := by decide +kernel
def mX5_given : MD := (yX5_given, cX5_given, 9, (some (.int)), [])
theorem wX5_given : mword mX5_given ∈ lw_all := q1655
theorem pX5_given : plainName mX5_given.1.cls = true ∧ (mX5_given.1.cls ≠ "java/lang/invoke/MethodHandle" ∧ mX5_given.1.cls ≠ "java/lang/invoke/VarHandle") ∧ (parseMethodDescriptor mX5_given.1.desc).map (fun d => d.parameters.length) = some 2 := by decide +kernel
def mX5_gives : MD := (yX5_gives, cX5_gives, 4, (some (.int)), [])
theorem wX5_gives : mword mX5_gives ∈ lw_all := q1613
theorem pX5_gives : plainName mX5_gives.1.cls = true ∧ (mX5_gives.1.cls ≠ "java/lang/invoke/MethodHandle" ∧ mX5_gives.1.cls ≠ "java/lang/invoke/VarHandle") ∧ (parseMethodDescriptor mX5_gives.1.desc).map (fun d => d.parameters.length) = some 1 := by decide +kernel
def mX5_giving : MD := (yX5_giving, cX5_giving, 3, (some (.int)), [])
theorem wX5_giving : mword mX5_giving ∈ lw_all := q1724
theorem pX5_giving : plainName mX5_giving.1.cls = true ∧ (mX5_giving.1.cls ≠ "java/lang/invoke/MethodHandle" ∧ mX5_giving.1.cls ≠ "java/lang/invoke/VarHandle") ∧ (parseMethodDescriptor mX5_giving.1.desc).map (fun d => d.parameters.length) = some 2 := by decide +kernel
def mX5_hearing : MD := (yX5_hearing, cX5_hearing, 3, (some (.int)), [])
theorem wX5_hearing : mword mX5_hearing ∈ lw_all := q1446
theorem pX5_hearing : plainName mX5_hearing.1.cls = true ∧ (mX5_hearing.1.cls ≠ "java/lang/invoke/MethodHandle" ∧ mX5_hearing.1.cls ≠ "java/lang/invoke/VarHandle") ∧ (parseMethodDescriptor mX5_hearing.1.desc).map (fun d => d.parameters.length) = some 1 := by decide +kernel
def mX5_held : MD := (yX5_held, cX5_held, 5, (some (.int)), [])
theorem wX5_held : mword mX5_held ∈ lw_all := q1577
theorem pX5_held : plainName mX5_held.1.cls = true ∧ (mX5_held.1.cls ≠ "java/lang/invoke/MethodHandle" ∧ mX5_held.1.cls ≠ "java/lang/invoke/VarHandle") ∧ (parseMethodDescriptor mX5_held.1.desc).map (fun d => d.parameters.length) = some 3 := by decide +kernel
def mX5_heldIn : MD := (yX5_heldIn, cX5_heldIn, 4, (some (.int)), [])
theorem wX5_heldIn : mword mX5_heldIn ∈ lw_all := q1628
theorem pX5_heldIn : plainName mX5_heldIn.1.cls = true ∧ (mX5_heldIn.1.cls ≠ "java/lang/invoke/MethodHandle" ∧ mX5_heldIn.1.cls ≠ "java/lang/invoke/VarHandle") ∧ (parseMethodDescriptor mX5_heldIn.1.desc).map (fun d => d.parameters.length) = some 1 := by decide +kernel
def mX5_holders : MD := (yX5_holders, cX5_holders, 6, (some (.int)), [])
theorem wX5_holders : mword mX5_holders ∈ lw_all := q1601
theorem pX5_holders : plainName mX5_holders.1.cls = true ∧ (mX5_holders.1.cls ≠ "java/lang/invoke/MethodHandle" ∧ mX5_holders.1.cls ≠ "java/lang/invoke/VarHandle") ∧ (parseMethodDescriptor mX5_holders.1.desc).map (fun d => d.parameters.length) = some 3 := by decide +kernel
def mX5_holding : MD := (yX5_holding, cX5_holding, 4, (some (.int)), [])
theorem wX5_holding : mword mX5_holding ∈ lw_all := q1743
theorem pX5_holding : plainName mX5_holding.1.cls = true ∧ (mX5_holding.1.cls ≠ "java/lang/invoke/MethodHandle" ∧ mX5_holding.1.cls ≠ "java/lang/invoke/VarHandle") ∧ (parseMethodDescriptor mX5_holding.1.desc).map (fun d => d.parameters.length) = some 2 := by decide +kernel
def mX5_holdsFor : MD := (yX5_holdsFor, cX5_holdsFor, 7, (some (.boolean)), [])
theorem wX5_holdsFor : mword mX5_holdsFor ∈ lw_all := q1609
theorem pX5_holdsFor : plainName mX5_holdsFor.1.cls = true ∧ (mX5_holdsFor.1.cls ≠ "java/lang/invoke/MethodHandle" ∧ mX5_holdsFor.1.cls ≠ "java/lang/invoke/VarHandle") ∧ (parseMethodDescriptor mX5_holdsFor.1.desc).map (fun d => d.parameters.length) = some 4 := by decide +kernel
def mX5_image : MD := (yX5_image, cX5_image, 2, (some (.int)), [])
theorem wX5_image : mword mX5_image ∈ lw_all := q1700
theorem pX5_image : plainName mX5_image.1.cls = true ∧ (mX5_image.1.cls ≠ "java/lang/invoke/MethodHandle" ∧ mX5_image.1.cls ≠ "java/lang/invoke/VarHandle") ∧ (parseMethodDescriptor mX5_image.1.desc).map (fun d => d.parameters.length) = some 0 := by decide +kernel
def mX5_in : MD := (yX5_in, cX5_in, 3, (some (.boolean)), [])
theorem wX5_in : mword mX5_in ∈ lw_all := q1418
theorem pX5_in : plainName mX5_in.1.cls = true ∧ (mX5_in.1.cls ≠ "java/lang/invoke/MethodHandle" ∧ mX5_in.1.cls ≠ "java/lang/invoke/VarHandle") ∧ (parseMethodDescriptor mX5_in.1.desc).map (fun d => d.parameters.length) = some 3 := by decide +kernel
def mX5_init : MD := (yX5_init, cX5_init, 1, none, [])
theorem wX5_init : mword mX5_init ∈ lw_all := q1263
theorem pX5_init : plainName mX5_init.1.cls = true ∧ (mX5_init.1.cls ≠ "java/lang/invoke/MethodHandle" ∧ mX5_init.1.cls ≠ "java/lang/invoke/VarHandle") ∧ (parseMethodDescriptor mX5_init.1.desc).map (fun d => d.parameters.length) = some 0 := by decide +kernel
def mX5_isAhead : MD := (yX5_isAhead, cX5_isAhead, 3, (some (.boolean)), [])
theorem wX5_isAhead : mword mX5_isAhead ∈ lw_all := q1494
theorem pX5_isAhead : plainName mX5_isAhead.1.cls = true ∧ (mX5_isAhead.1.cls ≠ "java/lang/invoke/MethodHandle" ∧ mX5_isAhead.1.cls ≠ "java/lang/invoke/VarHandle") ∧ (parseMethodDescriptor mX5_isAhead.1.desc).map (fun d => d.parameters.length) = some 2 := by decide +kernel
def mX5_isBody : MD := (yX5_isBody, cX5_isBody, 2, (some (.boolean)), [])
theorem wX5_isBody : mword mX5_isBody ∈ lw_all := q1720
theorem pX5_isBody : plainName mX5_isBody.1.cls = true ∧ (mX5_isBody.1.cls ≠ "java/lang/invoke/MethodHandle" ∧ mX5_isBody.1.cls ≠ "java/lang/invoke/VarHandle") ∧ (parseMethodDescriptor mX5_isBody.1.desc).map (fun d => d.parameters.length) = some 1 := by decide +kernel
def mX5_isFamous : MD := (yX5_isFamous, cX5_isFamous, 5, (some (.boolean)), [])
theorem wX5_isFamous : mword mX5_isFamous ∈ lw_all := q1593
theorem pX5_isFamous : plainName mX5_isFamous.1.cls = true ∧ (mX5_isFamous.1.cls ≠ "java/lang/invoke/MethodHandle" ∧ mX5_isFamous.1.cls ≠ "java/lang/invoke/VarHandle") ∧ (parseMethodDescriptor mX5_isFamous.1.desc).map (fun d => d.parameters.length) = some 3 := by decide +kernel
def mX5_isFreeWithout : MD := (yX5_isFreeWithout, cX5_isFreeWithout, 4, (some (.boolean)), [])
theorem wX5_isFreeWithout : mword mX5_isFreeWithout ∈ lw_all := q1683
theorem pX5_isFreeWithout : plainName mX5_isFreeWithout.1.cls = true ∧ (mX5_isFreeWithout.1.cls ≠ "java/lang/invoke/MethodHandle" ∧ mX5_isFreeWithout.1.cls ≠ "java/lang/invoke/VarHandle") ∧ (parseMethodDescriptor mX5_isFreeWithout.1.desc).map (fun d => d.parameters.length) = some 3 := by decide +kernel
def mX5_isHeld : MD := (yX5_isHeld, cX5_isHeld, 4, (some (.boolean)), [])
theorem wX5_isHeld : mword mX5_isHeld ∈ lw_all := q1589
theorem pX5_isHeld : plainName mX5_isHeld.1.cls = true ∧ (mX5_isHeld.1.cls ≠ "java/lang/invoke/MethodHandle" ∧ mX5_isHeld.1.cls ≠ "java/lang/invoke/VarHandle") ∧ (parseMethodDescriptor mX5_isHeld.1.desc).map (fun d => d.parameters.length) = some 3 := by decide +kernel
def mX5_isLife : MD := (yX5_isLife, cX5_isLife, 2, (some (.boolean)), [])
theorem wX5_isLife : mword mX5_isLife ∈ lw_all := q1412
theorem pX5_isLife : plainName mX5_isLife.1.cls = true ∧ (mX5_isLife.1.cls ≠ "java/lang/invoke/MethodHandle" ∧ mX5_isLife.1.cls ≠ "java/lang/invoke/VarHandle") ∧ (parseMethodDescriptor mX5_isLife.1.desc).map (fun d => d.parameters.length) = some 2 := by decide +kernel
def mX5_isName : MD := (yX5_isName, cX5_isName, 1, (some (.boolean)), [])
theorem wX5_isName : mword mX5_isName ∈ lw_all := q1458
theorem pX5_isName : plainName mX5_isName.1.cls = true ∧ (mX5_isName.1.cls ≠ "java/lang/invoke/MethodHandle" ∧ mX5_isName.1.cls ≠ "java/lang/invoke/VarHandle") ∧ (parseMethodDescriptor mX5_isName.1.desc).map (fun d => d.parameters.length) = some 1 := by decide +kernel
def mX5_isPerson : MD := (yX5_isPerson, cX5_isPerson, 2, (some (.boolean)), [])
theorem wX5_isPerson : mword mX5_isPerson ∈ lw_all := q1438
theorem pX5_isPerson : plainName mX5_isPerson.1.cls = true ∧ (mX5_isPerson.1.cls ≠ "java/lang/invoke/MethodHandle" ∧ mX5_isPerson.1.cls ≠ "java/lang/invoke/VarHandle") ∧ (parseMethodDescriptor mX5_isPerson.1.desc).map (fun d => d.parameters.length) = some 1 := by decide +kernel
def mX5_isShelf : MD := (yX5_isShelf, cX5_isShelf, 1, (some (.boolean)), [])
theorem wX5_isShelf : mword mX5_isShelf ∈ lw_all := q1429
theorem pX5_isShelf : plainName mX5_isShelf.1.cls = true ∧ (mX5_isShelf.1.cls ≠ "java/lang/invoke/MethodHandle" ∧ mX5_isShelf.1.cls ≠ "java/lang/invoke/VarHandle") ∧ (parseMethodDescriptor mX5_isShelf.1.desc).map (fun d => d.parameters.length) = some 1 := by decide +kernel
def mX5_isUnder : MD := (yX5_isUnder, cX5_isUnder, 2, (some (.boolean)), [])
theorem wX5_isUnder : mword mX5_isUnder ∈ lw_all := q1727
theorem pX5_isUnder : plainName mX5_isUnder.1.cls = true ∧ (mX5_isUnder.1.cls ≠ "java/lang/invoke/MethodHandle" ∧ mX5_isUnder.1.cls ≠ "java/lang/invoke/VarHandle") ∧ (parseMethodDescriptor mX5_isUnder.1.desc).map (fun d => d.parameters.length) = some 2 := by decide +kernel
def mX5_isYear : MD := (yX5_isYear, cX5_isYear, 1, (some (.boolean)), [])
theorem wX5_isYear : mword mX5_isYear ∈ lw_all := q1415
theorem pX5_isYear : plainName mX5_isYear.1.cls = true ∧ (mX5_isYear.1.cls ≠ "java/lang/invoke/MethodHandle" ∧ mX5_isYear.1.cls ≠ "java/lang/invoke/VarHandle") ∧ (parseMethodDescriptor mX5_isYear.1.desc).map (fun d => d.parameters.length) = some 1 := by decide +kernel
def mX5_judge : MD := (yX5_judge, cX5_judge, 3, (some (.int)), [])
theorem wX5_judge : mword mX5_judge ∈ lw_all := q1639
theorem pX5_judge : plainName mX5_judge.1.cls = true ∧ (mX5_judge.1.cls ≠ "java/lang/invoke/MethodHandle" ∧ mX5_judge.1.cls ≠ "java/lang/invoke/VarHandle") ∧ (parseMethodDescriptor mX5_judge.1.desc).map (fun d => d.parameters.length) = some 0 := by decide +kernel
def mX5_keep : MD := (yX5_keep, cX5_keep, 3, (some (.int)), [])
theorem wX5_keep : mword mX5_keep ∈ lw_all := q1783
theorem pX5_keep : plainName mX5_keep.1.cls = true ∧ (mX5_keep.1.cls ≠ "java/lang/invoke/MethodHandle" ∧ mX5_keep.1.cls ≠ "java/lang/invoke/VarHandle") ∧ (parseMethodDescriptor mX5_keep.1.desc).map (fun d => d.parameters.length) = some 2 := by decide +kernel
def mX5_knowing : MD := (yX5_knowing, cX5_knowing, 4, (some (.int)), [])
theorem wX5_knowing : mword mX5_knowing ∈ lw_all := q1755
theorem pX5_knowing : plainName mX5_knowing.1.cls = true ∧ (mX5_knowing.1.cls ≠ "java/lang/invoke/MethodHandle" ∧ mX5_knowing.1.cls ≠ "java/lang/invoke/VarHandle") ∧ (parseMethodDescriptor mX5_knowing.1.desc).map (fun d => d.parameters.length) = some 2 := by decide +kernel
def mX5_knows : MD := (yX5_knows, cX5_knows, 3, (some (.int)), [])
theorem wX5_knows : mword mX5_knows ∈ lw_all := q1569
theorem pX5_knows : plainName mX5_knows.1.cls = true ∧ (mX5_knows.1.cls ≠ "java/lang/invoke/MethodHandle" ∧ mX5_knows.1.cls ≠ "java/lang/invoke/VarHandle") ∧ (parseMethodDescriptor mX5_knows.1.desc).map (fun d => d.parameters.length) = some 2 := by decide +kernel
def mX5_latestHeld : MD := (yX5_latestHeld, cX5_latestHeld, 5, (some (.int)), [])
theorem wX5_latestHeld : mword mX5_latestHeld ∈ lw_all := q1659
theorem pX5_latestHeld : plainName mX5_latestHeld.1.cls = true ∧ (mX5_latestHeld.1.cls ≠ "java/lang/invoke/MethodHandle" ∧ mX5_latestHeld.1.cls ≠ "java/lang/invoke/VarHandle") ∧ (parseMethodDescriptor mX5_latestHeld.1.desc).map (fun d => d.parameters.length) = some 3 := by decide +kernel
def mX5_law : MD := (yX5_law, cX5_law, 2, (some (.int)), [])
theorem wX5_law : mword mX5_law ∈ lw_all := q1510
theorem pX5_law : plainName mX5_law.1.cls = true ∧ (mX5_law.1.cls ≠ "java/lang/invoke/MethodHandle" ∧ mX5_law.1.cls ≠ "java/lang/invoke/VarHandle") ∧ (parseMethodDescriptor mX5_law.1.desc).map (fun d => d.parameters.length) = some 0 := by decide +kernel
def mX5_lays : MD := (yX5_lays, cX5_lays, 4, none, [])
theorem wX5_lays : mword mX5_lays ∈ lw_all := q1466
theorem pX5_lays : plainName mX5_lays.1.cls = true ∧ (mX5_lays.1.cls ≠ "java/lang/invoke/MethodHandle" ∧ mX5_lays.1.cls ≠ "java/lang/invoke/VarHandle") ∧ (parseMethodDescriptor mX5_lays.1.desc).map (fun d => d.parameters.length) = some 3 := by decide +kernel
def mX5_line : MD := (yX5_line, cX5_line, 2, none, [])
theorem wX5_line : mword mX5_line ∈ lw_all := q1518
theorem pX5_line : plainName mX5_line.1.cls = true ∧ (mX5_line.1.cls ≠ "java/lang/invoke/MethodHandle" ∧ mX5_line.1.cls ≠ "java/lang/invoke/VarHandle") ∧ (parseMethodDescriptor mX5_line.1.desc).map (fun d => d.parameters.length) = some 0 := by decide +kernel
def mX5_lives : MD := (yX5_lives, cX5_lives, 3, (some (.boolean)), [])
theorem wX5_lives : mword mX5_lives ∈ lw_all := q1442
theorem pX5_lives : plainName mX5_lives.1.cls = true ∧ (mX5_lives.1.cls ≠ "java/lang/invoke/MethodHandle" ∧ mX5_lives.1.cls ≠ "java/lang/invoke/VarHandle") ∧ (parseMethodDescriptor mX5_lives.1.desc).map (fun d => d.parameters.length) = some 2 := by decide +kernel
def mX5_look : MD := (yX5_look, cX5_look, 1, (some (.int)), [])
theorem wX5_look : mword mX5_look ∈ lw_all := q1546
theorem pX5_look : plainName mX5_look.1.cls = true ∧ (mX5_look.1.cls ≠ "java/lang/invoke/MethodHandle" ∧ mX5_look.1.cls ≠ "java/lang/invoke/VarHandle") ∧ (parseMethodDescriptor mX5_look.1.desc).map (fun d => d.parameters.length) = some 0 := by decide +kernel
def mX5_meet : MD := (yX5_meet, cX5_meet, 3, (some (.int)), [])
theorem wX5_meet : mword mX5_meet ∈ lw_all := q1434
theorem pX5_meet : plainName mX5_meet.1.cls = true ∧ (mX5_meet.1.cls ≠ "java/lang/invoke/MethodHandle" ∧ mX5_meet.1.cls ≠ "java/lang/invoke/VarHandle") ∧ (parseMethodDescriptor mX5_meet.1.desc).map (fun d => d.parameters.length) = some 2 := by decide +kernel
def mX5_mend : MD := (yX5_mend, cX5_mend, 4, (some (.int)), [])
theorem wX5_mend : mword mX5_mend ∈ lw_all := q1474
theorem pX5_mend : plainName mX5_mend.1.cls = true ∧ (mX5_mend.1.cls ≠ "java/lang/invoke/MethodHandle" ∧ mX5_mend.1.cls ≠ "java/lang/invoke/VarHandle") ∧ (parseMethodDescriptor mX5_mend.1.desc).map (fun d => d.parameters.length) = some 3 := by decide +kernel
def mX5_most : MD := (yX5_most, cX5_most, 6, (some (.int)), [])
theorem wX5_most : mword mX5_most ∈ lw_all := q1632
theorem pX5_most : plainName mX5_most.1.cls = true ∧ (mX5_most.1.cls ≠ "java/lang/invoke/MethodHandle" ∧ mX5_most.1.cls ≠ "java/lang/invoke/VarHandle") ∧ (parseMethodDescriptor mX5_most.1.desc).map (fun d => d.parameters.length) = some 1 := by decide +kernel
def mX5_name : MD := (yX5_name, cX5_name, 4, (some (.int)), [])
theorem wX5_name : mword mX5_name ∈ lw_all := q1450
theorem pX5_name : plainName mX5_name.1.cls = true ∧ (mX5_name.1.cls ≠ "java/lang/invoke/MethodHandle" ∧ mX5_name.1.cls ≠ "java/lang/invoke/VarHandle") ∧ (parseMethodDescriptor mX5_name.1.desc).map (fun d => d.parameters.length) = some 2 := by decide +kernel
def mX5_nameOf : MD := (yX5_nameOf, cX5_nameOf, 1, (some (.int)), [])
theorem wX5_nameOf : mword mX5_nameOf ∈ lw_all := q1549
theorem pX5_nameOf : plainName mX5_nameOf.1.cls = true ∧ (mX5_nameOf.1.cls ≠ "java/lang/invoke/MethodHandle" ∧ mX5_nameOf.1.cls ≠ "java/lang/invoke/VarHandle") ∧ (parseMethodDescriptor mX5_nameOf.1.desc).map (fun d => d.parameters.length) = some 1 := by decide +kernel
def mX5_namedMany : MD := (yX5_namedMany, cX5_namedMany, 3, (some (.int)), [])
theorem wX5_namedMany : mword mX5_namedMany ∈ lw_all := q1779
theorem pX5_namedMany : plainName mX5_namedMany.1.cls = true ∧ (mX5_namedMany.1.cls ≠ "java/lang/invoke/MethodHandle" ∧ mX5_namedMany.1.cls ≠ "java/lang/invoke/VarHandle") ∧ (parseMethodDescriptor mX5_namedMany.1.desc).map (fun d => d.parameters.length) = some 0 := by decide +kernel
def mX5_needs : MD := (yX5_needs, cX5_needs, 9, (some (.int)), [])
theorem wX5_needs : mword mX5_needs ∈ lw_all := q1695
theorem pX5_needs : plainName mX5_needs.1.cls = true ∧ (mX5_needs.1.cls ≠ "java/lang/invoke/MethodHandle" ∧ mX5_needs.1.cls ≠ "java/lang/invoke/VarHandle") ∧ (parseMethodDescriptor mX5_needs.1.desc).map (fun d => d.parameters.length) = some 3 := by decide +kernel
def mX5_never : MD := (yX5_never, cX5_never, 5, (some (.int)), [])
theorem wX5_never : mword mX5_never ∈ lw_all := q1691
theorem pX5_never : plainName mX5_never.1.cls = true ∧ (mX5_never.1.cls ≠ "java/lang/invoke/MethodHandle" ∧ mX5_never.1.cls ≠ "java/lang/invoke/VarHandle") ∧ (parseMethodDescriptor mX5_never.1.desc).map (fun d => d.parameters.length) = some 1 := by decide +kernel
def mX5_of : MD := (yX5_of, cX5_of, 3, (some (.int)), [])
theorem wX5_of : mword mX5_of ∈ lw_all := q1486
theorem pX5_of : plainName mX5_of.1.cls = true ∧ (mX5_of.1.cls ≠ "java/lang/invoke/MethodHandle" ∧ mX5_of.1.cls ≠ "java/lang/invoke/VarHandle") ∧ (parseMethodDescriptor mX5_of.1.desc).map (fun d => d.parameters.length) = some 2 := by decide +kernel
def mX5_opens : MD := (yX5_opens, cX5_opens, 1, (some (.boolean)), [])
theorem wX5_opens : mword mX5_opens ∈ lw_all := q1557
theorem pX5_opens : plainName mX5_opens.1.cls = true ∧ (mX5_opens.1.cls ≠ "java/lang/invoke/MethodHandle" ∧ mX5_opens.1.cls ≠ "java/lang/invoke/VarHandle") ∧ (parseMethodDescriptor mX5_opens.1.desc).map (fun d => d.parameters.length) = some 0 := by decide +kernel
def mX5_operand : MD := (yX5_operand, cX5_operand, 2, none, [])
theorem wX5_operand : mword mX5_operand ∈ lw_all := q1542
theorem pX5_operand : plainName mX5_operand.1.cls = true ∧ (mX5_operand.1.cls ≠ "java/lang/invoke/MethodHandle" ∧ mX5_operand.1.cls ≠ "java/lang/invoke/VarHandle") ∧ (parseMethodDescriptor mX5_operand.1.desc).map (fun d => d.parameters.length) = some 0 := by decide +kernel
def mX5_people : MD := (yX5_people, cX5_people, 8, (some (.int)), [])
theorem wX5_people : mword mX5_people ∈ lw_all := q1426
theorem pX5_people : plainName mX5_people.1.cls = true ∧ (mX5_people.1.cls ≠ "java/lang/invoke/MethodHandle" ∧ mX5_people.1.cls ≠ "java/lang/invoke/VarHandle") ∧ (parseMethodDescriptor mX5_people.1.desc).map (fun d => d.parameters.length) = some 3 := by decide +kernel
def mX5_person : MD := (yX5_person, cX5_person, 3, (some (.int)), [])
theorem wX5_person : mword mX5_person ∈ lw_all := q1409
theorem pX5_person : plainName mX5_person.1.cls = true ∧ (mX5_person.1.cls ≠ "java/lang/invoke/MethodHandle" ∧ mX5_person.1.cls ≠ "java/lang/invoke/VarHandle") ∧ (parseMethodDescriptor mX5_person.1.desc).map (fun d => d.parameters.length) = some 2 := by decide +kernel
def mX5_personAt : MD := (yX5_personAt, cX5_personAt, 3, (some (.int)), [])
theorem wX5_personAt : mword mX5_personAt ∈ lw_all := q1643
theorem pX5_personAt : plainName mX5_personAt.1.cls = true ∧ (mX5_personAt.1.cls ≠ "java/lang/invoke/MethodHandle" ∧ mX5_personAt.1.cls ≠ "java/lang/invoke/VarHandle") ∧ (parseMethodDescriptor mX5_personAt.1.desc).map (fun d => d.parameters.length) = some 1 := by decide +kernel
def mX5_placeOf : MD := (yX5_placeOf, cX5_placeOf, 4, (some (.int)), [])
theorem wX5_placeOf : mword mX5_placeOf ∈ lw_all := q1490
theorem pX5_placeOf : plainName mX5_placeOf.1.cls = true ∧ (mX5_placeOf.1.cls ≠ "java/lang/invoke/MethodHandle" ∧ mX5_placeOf.1.cls ≠ "java/lang/invoke/VarHandle") ∧ (parseMethodDescriptor mX5_placeOf.1.desc).map (fun d => d.parameters.length) = some 1 := by decide +kernel
def mX5_plainGives : MD := (yX5_plainGives, cX5_plainGives, 3, (some (.int)), [])
theorem wX5_plainGives : mword mX5_plainGives ∈ lw_all := q1735
theorem pX5_plainGives : plainName mX5_plainGives.1.cls = true ∧ (mX5_plainGives.1.cls ≠ "java/lang/invoke/MethodHandle" ∧ mX5_plainGives.1.cls ≠ "java/lang/invoke/VarHandle") ∧ (parseMethodDescriptor mX5_plainGives.1.desc).map (fun d => d.parameters.length) = some 2 := by decide +kernel
def mX5_plainHolds : MD := (yX5_plainHolds, cX5_plainHolds, 3, (some (.int)), [])
theorem wX5_plainHolds : mword mX5_plainHolds ∈ lw_all := q1751
theorem pX5_plainHolds : plainName mX5_plainHolds.1.cls = true ∧ (mX5_plainHolds.1.cls ≠ "java/lang/invoke/MethodHandle" ∧ mX5_plainHolds.1.cls ≠ "java/lang/invoke/VarHandle") ∧ (parseMethodDescriptor mX5_plainHolds.1.desc).map (fun d => d.parameters.length) = some 2 := by decide +kernel
def mX5_plainKnows : MD := (yX5_plainKnows, cX5_plainKnows, 3, (some (.int)), [])
theorem wX5_plainKnows : mword mX5_plainKnows ∈ lw_all := q1763
theorem pX5_plainKnows : plainName mX5_plainKnows.1.cls = true ∧ (mX5_plainKnows.1.cls ≠ "java/lang/invoke/MethodHandle" ∧ mX5_plainKnows.1.cls ≠ "java/lang/invoke/VarHandle") ∧ (parseMethodDescriptor mX5_plainKnows.1.desc).map (fun d => d.parameters.length) = some 2 := by decide +kernel
def mX5_plainTells : MD := (yX5_plainTells, cX5_plainTells, 4, (some (.int)), [])
theorem wX5_plainTells : mword mX5_plainTells ∈ lw_all := q1771
theorem pX5_plainTells : plainName mX5_plainTells.1.cls = true ∧ (mX5_plainTells.1.cls ≠ "java/lang/invoke/MethodHandle" ∧ mX5_plainTells.1.cls ≠ "java/lang/invoke/VarHandle") ∧ (parseMethodDescriptor mX5_plainTells.1.desc).map (fun d => d.parameters.length) = some 2 := by decide +kernel
def mX5_product : MD := (yX5_product, cX5_product, 2, none, [])
theorem wX5_product : mword mX5_product ∈ lw_all := q1538
theorem pX5_product : plainName mX5_product.1.cls = true ∧ (mX5_product.1.cls ≠ "java/lang/invoke/MethodHandle" ∧ mX5_product.1.cls ≠ "java/lang/invoke/VarHandle") ∧ (parseMethodDescriptor mX5_product.1.desc).map (fun d => d.parameters.length) = some 0 := by decide +kernel
def mX5_put : MD := (yX5_put, cX5_put, 7, (some (.int)), [])
theorem wX5_put : mword mX5_put ∈ lw_all := q1791
theorem pX5_put : plainName mX5_put.1.cls = true ∧ (mX5_put.1.cls ≠ "java/lang/invoke/MethodHandle" ∧ mX5_put.1.cls ≠ "java/lang/invoke/VarHandle") ∧ (parseMethodDescriptor mX5_put.1.desc).map (fun d => d.parameters.length) = some 3 := by decide +kernel
def mX5_ran : MD := (yX5_ran, cX5_ran, 2, none, [])
theorem wX5_ran : mword mX5_ran ∈ lw_all := q1731
theorem pX5_ran : plainName mX5_ran.1.cls = true ∧ (mX5_ran.1.cls ≠ "java/lang/invoke/MethodHandle" ∧ mX5_ran.1.cls ≠ "java/lang/invoke/VarHandle") ∧ (parseMethodDescriptor mX5_ran.1.desc).map (fun d => d.parameters.length) = some 1 := by decide +kernel
def mX5_readText : MD := (yX5_readText, cX5_readText, 3, (some (.int)), [])
theorem wX5_readText : mword mX5_readText ∈ lw_all := q1514
theorem pX5_readText : plainName mX5_readText.1.cls = true ∧ (mX5_readText.1.cls ≠ "java/lang/invoke/MethodHandle" ∧ mX5_readText.1.cls ≠ "java/lang/invoke/VarHandle") ∧ (parseMethodDescriptor mX5_readText.1.desc).map (fun d => d.parameters.length) = some 1 := by decide +kernel
def mX5_redo : MD := (yX5_redo, cX5_redo, 1, (some (.int)), [])
theorem wX5_redo : mword mX5_redo ∈ lw_all := q1470
theorem pX5_redo : plainName mX5_redo.1.cls = true ∧ (mX5_redo.1.cls ≠ "java/lang/invoke/MethodHandle" ∧ mX5_redo.1.cls ≠ "java/lang/invoke/VarHandle") ∧ (parseMethodDescriptor mX5_redo.1.desc).map (fun d => d.parameters.length) = some 0 := by decide +kernel
def mX5_row : MD := (yX5_row, cX5_row, 5, (some (.int)), [])
theorem wX5_row : mword mX5_row ∈ lw_all := q1787
theorem pX5_row : plainName mX5_row.1.cls = true ∧ (mX5_row.1.cls ≠ "java/lang/invoke/MethodHandle" ∧ mX5_row.1.cls ≠ "java/lang/invoke/VarHandle") ∧ (parseMethodDescriptor mX5_row.1.desc).map (fun d => d.parameters.length) = some 3 := by decide +kernel
def mX5_run : MD := (yX5_run, cX5_run, 3, (some (.int)), [])
theorem wX5_run : mword mX5_run ∈ lw_all := q1663
theorem pX5_run : plainName mX5_run.1.cls = true ∧ (mX5_run.1.cls ≠ "java/lang/invoke/MethodHandle" ∧ mX5_run.1.cls ≠ "java/lang/invoke/VarHandle") ∧ (parseMethodDescriptor mX5_run.1.desc).map (fun d => d.parameters.length) = some 2 := by decide +kernel
def mX5_runBy : MD := (yX5_runBy, cX5_runBy, 5, none, [])
theorem wX5_runBy : mword mX5_runBy ∈ lw_all := q1667
theorem pX5_runBy : plainName mX5_runBy.1.cls = true ∧ (mX5_runBy.1.cls ≠ "java/lang/invoke/MethodHandle" ∧ mX5_runBy.1.cls ≠ "java/lang/invoke/VarHandle") ∧ (parseMethodDescriptor mX5_runBy.1.desc).map (fun d => d.parameters.length) = some 1 := by decide +kernel
def mX5_shift : MD := (yX5_shift, cX5_shift, 7, (some (.int)), [])
theorem wX5_shift : mword mX5_shift ∈ lw_all := q1804
theorem pX5_shift : plainName mX5_shift.1.cls = true ∧ (mX5_shift.1.cls ≠ "java/lang/invoke/MethodHandle" ∧ mX5_shift.1.cls ≠ "java/lang/invoke/VarHandle") ∧ (parseMethodDescriptor mX5_shift.1.desc).map (fun d => d.parameters.length) = some 5 := by decide +kernel
def mX5_soonHolds : MD := (yX5_soonHolds, cX5_soonHolds, 3, (some (.int)), [])
theorem wX5_soonHolds : mword mX5_soonHolds ∈ lw_all := q1747
theorem pX5_soonHolds : plainName mX5_soonHolds.1.cls = true ∧ (mX5_soonHolds.1.cls ≠ "java/lang/invoke/MethodHandle" ∧ mX5_soonHolds.1.cls ≠ "java/lang/invoke/VarHandle") ∧ (parseMethodDescriptor mX5_soonHolds.1.desc).map (fun d => d.parameters.length) = some 2 := by decide +kernel
def mX5_sum : MD := (yX5_sum, cX5_sum, 2, none, [])
theorem wX5_sum : mword mX5_sum ∈ lw_all := q1534
theorem pX5_sum : plainName mX5_sum.1.cls = true ∧ (mX5_sum.1.cls ≠ "java/lang/invoke/MethodHandle" ∧ mX5_sum.1.cls ≠ "java/lang/invoke/VarHandle") ∧ (parseMethodDescriptor mX5_sum.1.desc).map (fun d => d.parameters.length) = some 0 := by decide +kernel
def mX5_taken : MD := (yX5_taken, cX5_taken, 3, (some (.int)), [])
theorem wX5_taken : mword mX5_taken ∈ lw_all := q1808
theorem pX5_taken : plainName mX5_taken.1.cls = true ∧ (mX5_taken.1.cls ≠ "java/lang/invoke/MethodHandle" ∧ mX5_taken.1.cls ≠ "java/lang/invoke/VarHandle") ∧ (parseMethodDescriptor mX5_taken.1.desc).map (fun d => d.parameters.length) = some 2 := by decide +kernel
def mX5_telling : MD := (yX5_telling, cX5_telling, 3, (some (.int)), [])
theorem wX5_telling : mword mX5_telling ∈ lw_all := q1767
theorem pX5_telling : plainName mX5_telling.1.cls = true ∧ (mX5_telling.1.cls ≠ "java/lang/invoke/MethodHandle" ∧ mX5_telling.1.cls ≠ "java/lang/invoke/VarHandle") ∧ (parseMethodDescriptor mX5_telling.1.desc).map (fun d => d.parameters.length) = some 2 := by decide +kernel
def mX5_toldGives : MD := (yX5_toldGives, cX5_toldGives, 3, (some (.int)), [])
theorem wX5_toldGives : mword mX5_toldGives ∈ lw_all := q1739
theorem pX5_toldGives : plainName mX5_toldGives.1.cls = true ∧ (mX5_toldGives.1.cls ≠ "java/lang/invoke/MethodHandle" ∧ mX5_toldGives.1.cls ≠ "java/lang/invoke/VarHandle") ∧ (parseMethodDescriptor mX5_toldGives.1.desc).map (fun d => d.parameters.length) = some 2 := by decide +kernel
def mX5_trace : MD := (yX5_trace, cX5_trace, 2, (some (.int)), [])
theorem wX5_trace : mword mX5_trace ∈ lw_all := q1708
theorem pX5_trace : plainName mX5_trace.1.cls = true ∧ (mX5_trace.1.cls ≠ "java/lang/invoke/MethodHandle" ∧ mX5_trace.1.cls ≠ "java/lang/invoke/VarHandle") ∧ (parseMethodDescriptor mX5_trace.1.desc).map (fun d => d.parameters.length) = some 1 := by decide +kernel
def mX5_twoOf : MD := (yX5_twoOf, cX5_twoOf, 3, (some (.int)), [])
theorem wX5_twoOf : mword mX5_twoOf ∈ lw_all := q1620
theorem pX5_twoOf : plainName mX5_twoOf.1.cls = true ∧ (mX5_twoOf.1.cls ≠ "java/lang/invoke/MethodHandle" ∧ mX5_twoOf.1.cls ≠ "java/lang/invoke/VarHandle") ∧ (parseMethodDescriptor mX5_twoOf.1.desc).map (fun d => d.parameters.length) = some 3 := by decide +kernel
def mX5_undo : MD := (yX5_undo, cX5_undo, 1, (some (.int)), [])
theorem wX5_undo : mword mX5_undo ∈ lw_all := q1462
theorem pX5_undo : plainName mX5_undo.1.cls = true ∧ (mX5_undo.1.cls ≠ "java/lang/invoke/MethodHandle" ∧ mX5_undo.1.cls ≠ "java/lang/invoke/VarHandle") ∧ (parseMethodDescriptor mX5_undo.1.desc).map (fun d => d.parameters.length) = some 0 := by decide +kernel
def mX5_unlikeNames : MD := (yX5_unlikeNames, cX5_unlikeNames, 3, (some (.int)), [])
theorem wX5_unlikeNames : mword mX5_unlikeNames ∈ lw_all := q1675
theorem pX5_unlikeNames : plainName mX5_unlikeNames.1.cls = true ∧ (mX5_unlikeNames.1.cls ≠ "java/lang/invoke/MethodHandle" ∧ mX5_unlikeNames.1.cls ≠ "java/lang/invoke/VarHandle") ∧ (parseMethodDescriptor mX5_unlikeNames.1.desc).map (fun d => d.parameters.length) = some 0 := by decide +kernel
def mX5_used : MD := (yX5_used, cX5_used, 5, (some (.int)), [])
theorem wX5_used : mword mX5_used ∈ lw_all := q1671
theorem pX5_used : plainName mX5_used.1.cls = true ∧ (mX5_used.1.cls ≠ "java/lang/invoke/MethodHandle" ∧ mX5_used.1.cls ≠ "java/lang/invoke/VarHandle") ∧ (parseMethodDescriptor mX5_used.1.desc).map (fun d => d.parameters.length) = some 2 := by decide +kernel
def mX5_valueAt : MD := (yX5_valueAt, cX5_valueAt, 3, (some (.int)), [])
theorem wX5_valueAt : mword mX5_valueAt ∈ lw_all := q1482
theorem pX5_valueAt : plainName mX5_valueAt.1.cls = true ∧ (mX5_valueAt.1.cls ≠ "java/lang/invoke/MethodHandle" ∧ mX5_valueAt.1.cls ≠ "java/lang/invoke/VarHandle") ∧ (parseMethodDescriptor mX5_valueAt.1.desc).map (fun d => d.parameters.length) = some 2 := by decide +kernel
def mX5_whyNoPlace : MD := (yX5_whyNoPlace, cX5_whyNoPlace, 3, (some (.int)), [])
theorem wX5_whyNoPlace : mword mX5_whyNoPlace ∈ lw_all := q1795
theorem pX5_whyNoPlace : plainName mX5_whyNoPlace.1.cls = true ∧ (mX5_whyNoPlace.1.cls ≠ "java/lang/invoke/MethodHandle" ∧ mX5_whyNoPlace.1.cls ≠ "java/lang/invoke/VarHandle") ∧ (parseMethodDescriptor mX5_whyNoPlace.1.desc).map (fun d => d.parameters.length) = some 2 := by decide +kernel
def mX5_wishKnows : MD := (yX5_wishKnows, cX5_wishKnows, 3, (some (.int)), [])
theorem wX5_wishKnows : mword mX5_wishKnows ∈ lw_all := q1759
theorem pX5_wishKnows : plainName mX5_wishKnows.1.cls = true ∧ (mX5_wishKnows.1.cls ≠ "java/lang/invoke/MethodHandle" ∧ mX5_wishKnows.1.cls ≠ "java/lang/invoke/VarHandle") ∧ (parseMethodDescriptor mX5_wishKnows.1.desc).map (fun d => d.parameters.length) = some 2 := by decide +kernel
def mX5_worked : MD := (yX5_worked, cX5_worked, 7, (some (.int)), [])
theorem wX5_worked : mword mX5_worked ∈ lw_all := q1617
theorem pX5_worked : plainName mX5_worked.1.cls = true ∧ (mX5_worked.1.cls ≠ "java/lang/invoke/MethodHandle" ∧ mX5_worked.1.cls ≠ "java/lang/invoke/VarHandle") ∧ (parseMethodDescriptor mX5_worked.1.desc).map (fun d => d.parameters.length) = some 3 := by decide +kernel
def mX6_init : MD := (yX6_init, cX6_init, 3, none, [])
theorem wX6_init : mword mX6_init ∈ lw_all := q384
theorem pX6_init : plainName mX6_init.1.cls = true ∧ (mX6_init.1.cls ≠ "java/lang/invoke/MethodHandle" ∧ mX6_init.1.cls ≠ "java/lang/invoke/VarHandle") ∧ (parseMethodDescriptor mX6_init.1.desc).map (fun d => d.parameters.length) = some 2 := by decide +kernel
def mX6_lives : MD := (yX6_lives, cX6_lives, 2, (some (.boolean)), [])
theorem wX6_lives : mword mX6_lives ∈ lw_all := q447
theorem pX6_lives : plainName mX6_lives.1.cls = true ∧ (mX6_lives.1.cls ≠ "java/lang/invoke/MethodHandle" ∧ mX6_lives.1.cls ≠ "java/lang/invoke/VarHandle") ∧ (parseMethodDescriptor mX6_lives.1.desc).map (fun d => d.parameters.length) = some 1 := by decide +kernel
def mX7_init : MD := (yX7_init, cX7_init, 4, none, [])
theorem wX7_init : mword mX7_init ∈ lw_all := q451
theorem pX7_init : plainName mX7_init.1.cls = true ∧ (mX7_init.1.cls ≠ "java/lang/invoke/MethodHandle" ∧ mX7_init.1.cls ≠ "java/lang/invoke/VarHandle") ∧ (parseMethodDescriptor mX7_init.1.desc).map (fun d => d.parameters.length) = some 3 := by decide +kernel
def mX8_init : MD := (yX8_init, cX8_init, 1, none, [])
theorem wX8_init : mword mX8_init ∈ lw_all := q534
theorem pX8_init : plainName mX8_init.1.cls = true ∧ (mX8_init.1.cls ≠ "java/lang/invoke/MethodHandle" ∧ mX8_init.1.cls ≠ "java/lang/invoke/VarHandle") ∧ (parseMethodDescriptor mX8_init.1.desc).map (fun d => d.parameters.length) = some 0 := by decide +kernel
def mX9_init : MD := (yX9_init, cX9_init, 1, none, [])
theorem wX9_init : mword mX9_init ∈ lw_all := q587
theorem pX9_init : plainName mX9_init.1.cls = true ∧ (mX9_init.1.cls ≠ "java/lang/invoke/MethodHandle" ∧ mX9_init.1.cls ≠ "java/lang/invoke/VarHandle") ∧ (parseMethodDescriptor mX9_init.1.desc).map (fun d => d.parameters.length) = some 0 := by decide +kernel
def mX10_init : MD := (yX10_init, cX10_init, 2, none, [])
theorem wX10_init : mword mX10_init ∈ lw_all := q584
theorem pX10_init : plainName mX10_init.1.cls = true ∧ (mX10_init.1.cls ≠ "java/lang/invoke/MethodHandle" ∧ mX10_init.1.cls ≠ "java/lang/invoke/VarHandle") ∧ (parseMethodDescriptor mX10_init.1.desc).map (fun d => d.parameters.length) = some 1 := by decide +kernel
def mX10_value : MD := (yX10_value, cX10_value, 1, (some (.int)), [])
theorem wX10_value : mword mX10_value ∈ lw_all := q704
theorem pX10_value : plainName mX10_value.1.cls = true ∧ (mX10_value.1.cls ≠ "java/lang/invoke/MethodHandle" ∧ mX10_value.1.cls ≠ "java/lang/invoke/VarHandle") ∧ (parseMethodDescriptor mX10_value.1.desc).map (fun d => d.parameters.length) = some 0 := by decide +kernel
def mX11_init : MD := (yX11_init, cX11_init, 3, none, [])
theorem wX11_init : mword mX11_init ∈ lw_all := q600
theorem pX11_init : plainName mX11_init.1.cls = true ∧ (mX11_init.1.cls ≠ "java/lang/invoke/MethodHandle" ∧ mX11_init.1.cls ≠ "java/lang/invoke/VarHandle") ∧ (parseMethodDescriptor mX11_init.1.desc).map (fun d => d.parameters.length) = some 2 := by decide +kernel
def mX11_value : MD := (yX11_value, cX11_value, 1, (some (.int)), [])
theorem wX11_value : mword mX11_value ∈ lw_all := q706
theorem pX11_value : plainName mX11_value.1.cls = true ∧ (mX11_value.1.cls ≠ "java/lang/invoke/MethodHandle" ∧ mX11_value.1.cls ≠ "java/lang/invoke/VarHandle") ∧ (parseMethodDescriptor mX11_value.1.desc).map (fun d => d.parameters.length) = some 0 := by decide +kernel
def mX12_init : MD := (yX12_init, cX12_init, 3, none, [])
theorem wX12_init : mword mX12_init ∈ lw_all := q613
theorem pX12_init : plainName mX12_init.1.cls = true ∧ (mX12_init.1.cls ≠ "java/lang/invoke/MethodHandle" ∧ mX12_init.1.cls ≠ "java/lang/invoke/VarHandle") ∧ (parseMethodDescriptor mX12_init.1.desc).map (fun d => d.parameters.length) = some 2 := by decide +kernel
def mX12_value : MD := (yX12_value, cX12_value, 1, (some (.int)), [])
theorem wX12_value : mword mX12_value ∈ lw_all := q708
theorem pX12_value : plainName mX12_value.1.cls = true ∧ (mX12_value.1.cls ≠ "java/lang/invoke/MethodHandle" ∧ mX12_value.1.cls ≠ "java/lang/invoke/VarHandle") ∧ (parseMethodDescriptor mX12_value.1.desc).map (fun d => d.parameters.length) = some 0 := by decide +kernel
def mX13_init : MD := (yX13_init, cX13_init, 4, none, [])
theorem wX13_init : mword mX13_init ∈ lw_all := q634
theorem pX13_init : plainName mX13_init.1.cls = true ∧ (mX13_init.1.cls ≠ "java/lang/invoke/MethodHandle" ∧ mX13_init.1.cls ≠ "java/lang/invoke/VarHandle") ∧ (parseMethodDescriptor mX13_init.1.desc).map (fun d => d.parameters.length) = some 3 := by decide +kernel
def mX13_value : MD := (yX13_value, cX13_value, 3, (some (.int)), [])
theorem wX13_value : mword mX13_value ∈ lw_all := q701
theorem pX13_value : plainName mX13_value.1.cls = true ∧ (mX13_value.1.cls ≠ "java/lang/invoke/MethodHandle" ∧ mX13_value.1.cls ≠ "java/lang/invoke/VarHandle") ∧ (parseMethodDescriptor mX13_value.1.desc).map (fun d => d.parameters.length) = some 0 := by decide +kernel
def mX14_begins : MD := (yX14_begins, cX14_begins, 2, none, [])
theorem wX14_begins : mword mX14_begins ∈ lw_all := q935
theorem pX14_begins : plainName mX14_begins.1.cls = true ∧ (mX14_begins.1.cls ≠ "java/lang/invoke/MethodHandle" ∧ mX14_begins.1.cls ≠ "java/lang/invoke/VarHandle") ∧ (parseMethodDescriptor mX14_begins.1.desc).map (fun d => d.parameters.length) = some 1 := by decide +kernel
def mX14_holds : MD := (yX14_holds, cX14_holds, 2, (some (.int)), [])
theorem wX14_holds : mword mX14_holds ∈ lw_all := q1047
theorem pX14_holds : plainName mX14_holds.1.cls = true ∧ (mX14_holds.1.cls ≠ "java/lang/invoke/MethodHandle" ∧ mX14_holds.1.cls ≠ "java/lang/invoke/VarHandle") ∧ (parseMethodDescriptor mX14_holds.1.desc).map (fun d => d.parameters.length) = some 1 := by decide +kernel
def mX14_init : MD := (yX14_init, cX14_init, 3, none, [])
theorem wX14_init : mword mX14_init ∈ lw_all := q822
theorem pX14_init : plainName mX14_init.1.cls = true ∧ (mX14_init.1.cls ≠ "java/lang/invoke/MethodHandle" ∧ mX14_init.1.cls ≠ "java/lang/invoke/VarHandle") ∧ (parseMethodDescriptor mX14_init.1.desc).map (fun d => d.parameters.length) = some 2 := by decide +kernel
def mX14_isUnder : MD := (yX14_isUnder, cX14_isUnder, 2, (some (.boolean)), [])
theorem wX14_isUnder : mword mX14_isUnder ∈ lw_all := q1224
theorem pX14_isUnder : plainName mX14_isUnder.1.cls = true ∧ (mX14_isUnder.1.cls ≠ "java/lang/invoke/MethodHandle" ∧ mX14_isUnder.1.cls ≠ "java/lang/invoke/VarHandle") ∧ (parseMethodDescriptor mX14_isUnder.1.desc).map (fun d => d.parameters.length) = some 1 := by decide +kernel
def mX14_kind : MD := (yX14_kind, cX14_kind, 1, (some (.int)), [])
theorem wX14_kind : mword mX14_kind ∈ lw_all := q1250
theorem pX14_kind : plainName mX14_kind.1.cls = true ∧ (mX14_kind.1.cls ≠ "java/lang/invoke/MethodHandle" ∧ mX14_kind.1.cls ≠ "java/lang/invoke/VarHandle") ∧ (parseMethodDescriptor mX14_kind.1.desc).map (fun d => d.parameters.length) = some 0 := by decide +kernel
def mX14_knows : MD := (yX14_knows, cX14_knows, 2, (some (.int)), [])
theorem wX14_knows : mword mX14_knows ∈ lw_all := q1042
theorem pX14_knows : plainName mX14_knows.1.cls = true ∧ (mX14_knows.1.cls ≠ "java/lang/invoke/MethodHandle" ∧ mX14_knows.1.cls ≠ "java/lang/invoke/VarHandle") ∧ (parseMethodDescriptor mX14_knows.1.desc).map (fun d => d.parameters.length) = some 1 := by decide +kernel
def mX14_number : MD := (yX14_number, cX14_number, 1, (some (.int)), [])
theorem wX14_number : mword mX14_number ∈ lw_all := q975
theorem pX14_number : plainName mX14_number.1.cls = true ∧ (mX14_number.1.cls ≠ "java/lang/invoke/MethodHandle" ∧ mX14_number.1.cls ≠ "java/lang/invoke/VarHandle") ∧ (parseMethodDescriptor mX14_number.1.desc).map (fun d => d.parameters.length) = some 0 := by decide +kernel
def mX15_gives : MD := (yX15_gives, cX15_gives, 2, (some (.int)), [])
theorem wX15_gives : mword mX15_gives ∈ lw_all := q928
theorem pX15_gives : plainName mX15_gives.1.cls = true ∧ (mX15_gives.1.cls ≠ "java/lang/invoke/MethodHandle" ∧ mX15_gives.1.cls ≠ "java/lang/invoke/VarHandle") ∧ (parseMethodDescriptor mX15_gives.1.desc).map (fun d => d.parameters.length) = some 1 := by decide +kernel
def mX15_init : MD := (yX15_init, cX15_init, 3, none, [])
theorem wX15_init : mword mX15_init ∈ lw_all := q819
theorem pX15_init : plainName mX15_init.1.cls = true ∧ (mX15_init.1.cls ≠ "java/lang/invoke/MethodHandle" ∧ mX15_init.1.cls ≠ "java/lang/invoke/VarHandle") ∧ (parseMethodDescriptor mX15_init.1.desc).map (fun d => d.parameters.length) = some 2 := by decide +kernel
def mX15_isUnder : MD := (yX15_isUnder, cX15_isUnder, 2, (some (.boolean)), [])
theorem wX15_isUnder : mword mX15_isUnder ∈ lw_all := q1211
theorem pX15_isUnder : plainName mX15_isUnder.1.cls = true ∧ (mX15_isUnder.1.cls ≠ "java/lang/invoke/MethodHandle" ∧ mX15_isUnder.1.cls ≠ "java/lang/invoke/VarHandle") ∧ (parseMethodDescriptor mX15_isUnder.1.desc).map (fun d => d.parameters.length) = some 1 := by decide +kernel
def mX15_kind : MD := (yX15_kind, cX15_kind, 1, (some (.int)), [])
theorem wX15_kind : mword mX15_kind ∈ lw_all := q1237
theorem pX15_kind : plainName mX15_kind.1.cls = true ∧ (mX15_kind.1.cls ≠ "java/lang/invoke/MethodHandle" ∧ mX15_kind.1.cls ≠ "java/lang/invoke/VarHandle") ∧ (parseMethodDescriptor mX15_kind.1.desc).map (fun d => d.parameters.length) = some 0 := by decide +kernel
def mX16_holds : MD := (yX16_holds, cX16_holds, 2, (some (.int)), [])
theorem wX16_holds : mword mX16_holds ∈ lw_all := q1022
theorem pX16_holds : plainName mX16_holds.1.cls = true ∧ (mX16_holds.1.cls ≠ "java/lang/invoke/MethodHandle" ∧ mX16_holds.1.cls ≠ "java/lang/invoke/VarHandle") ∧ (parseMethodDescriptor mX16_holds.1.desc).map (fun d => d.parameters.length) = some 1 := by decide +kernel
def mX16_init : MD := (yX16_init, cX16_init, 3, none, [])
theorem wX16_init : mword mX16_init ∈ lw_all := q838
theorem pX16_init : plainName mX16_init.1.cls = true ∧ (mX16_init.1.cls ≠ "java/lang/invoke/MethodHandle" ∧ mX16_init.1.cls ≠ "java/lang/invoke/VarHandle") ∧ (parseMethodDescriptor mX16_init.1.desc).map (fun d => d.parameters.length) = some 2 := by decide +kernel
def mX16_isUnder : MD := (yX16_isUnder, cX16_isUnder, 2, (some (.boolean)), [])
theorem wX16_isUnder : mword mX16_isUnder ∈ lw_all := q1204
theorem pX16_isUnder : plainName mX16_isUnder.1.cls = true ∧ (mX16_isUnder.1.cls ≠ "java/lang/invoke/MethodHandle" ∧ mX16_isUnder.1.cls ≠ "java/lang/invoke/VarHandle") ∧ (parseMethodDescriptor mX16_isUnder.1.desc).map (fun d => d.parameters.length) = some 1 := by decide +kernel
def mX16_kind : MD := (yX16_kind, cX16_kind, 1, (some (.int)), [])
theorem wX16_kind : mword mX16_kind ∈ lw_all := q1243
theorem pX16_kind : plainName mX16_kind.1.cls = true ∧ (mX16_kind.1.cls ≠ "java/lang/invoke/MethodHandle" ∧ mX16_kind.1.cls ≠ "java/lang/invoke/VarHandle") ∧ (parseMethodDescriptor mX16_kind.1.desc).map (fun d => d.parameters.length) = some 0 := by decide +kernel
def mX17_holds : MD := (yX17_holds, cX17_holds, 2, (some (.int)), [])
theorem wX17_holds : mword mX17_holds ∈ lw_all := q1015
theorem pX17_holds : plainName mX17_holds.1.cls = true ∧ (mX17_holds.1.cls ≠ "java/lang/invoke/MethodHandle" ∧ mX17_holds.1.cls ≠ "java/lang/invoke/VarHandle") ∧ (parseMethodDescriptor mX17_holds.1.desc).map (fun d => d.parameters.length) = some 1 := by decide +kernel
def mX17_init : MD := (yX17_init, cX17_init, 3, none, [])
theorem wX17_init : mword mX17_init ∈ lw_all := q850
theorem pX17_init : plainName mX17_init.1.cls = true ∧ (mX17_init.1.cls ≠ "java/lang/invoke/MethodHandle" ∧ mX17_init.1.cls ≠ "java/lang/invoke/VarHandle") ∧ (parseMethodDescriptor mX17_init.1.desc).map (fun d => d.parameters.length) = some 2 := by decide +kernel
def mX17_isUnder : MD := (yX17_isUnder, cX17_isUnder, 2, (some (.boolean)), [])
theorem wX17_isUnder : mword mX17_isUnder ∈ lw_all := q1201
theorem pX17_isUnder : plainName mX17_isUnder.1.cls = true ∧ (mX17_isUnder.1.cls ≠ "java/lang/invoke/MethodHandle" ∧ mX17_isUnder.1.cls ≠ "java/lang/invoke/VarHandle") ∧ (parseMethodDescriptor mX17_isUnder.1.desc).map (fun d => d.parameters.length) = some 1 := by decide +kernel
def mX17_kind : MD := (yX17_kind, cX17_kind, 1, (some (.int)), [])
theorem wX17_kind : mword mX17_kind ∈ lw_all := q1249
theorem pX17_kind : plainName mX17_kind.1.cls = true ∧ (mX17_kind.1.cls ≠ "java/lang/invoke/MethodHandle" ∧ mX17_kind.1.cls ≠ "java/lang/invoke/VarHandle") ∧ (parseMethodDescriptor mX17_kind.1.desc).map (fun d => d.parameters.length) = some 0 := by decide +kernel
def mX17_knows : MD := (yX17_knows, cX17_knows, 2, (some (.int)), [])
theorem wX17_knows : mword mX17_knows ∈ lw_all := q1056
theorem pX17_knows : plainName mX17_knows.1.cls = true ∧ (mX17_knows.1.cls ≠ "java/lang/invoke/MethodHandle" ∧ mX17_knows.1.cls ≠ "java/lang/invoke/VarHandle") ∧ (parseMethodDescriptor mX17_knows.1.desc).map (fun d => d.parameters.length) = some 1 := by decide +kernel
def mX18_init : MD := (yX18_init, cX18_init, 3, none, [])
theorem wX18_init : mword mX18_init ∈ lw_all := q863
theorem pX18_init : plainName mX18_init.1.cls = true ∧ (mX18_init.1.cls ≠ "java/lang/invoke/MethodHandle" ∧ mX18_init.1.cls ≠ "java/lang/invoke/VarHandle") ∧ (parseMethodDescriptor mX18_init.1.desc).map (fun d => d.parameters.length) = some 2 := by decide +kernel
def mX18_isUnder : MD := (yX18_isUnder, cX18_isUnder, 2, (some (.boolean)), [])
theorem wX18_isUnder : mword mX18_isUnder ∈ lw_all := q1208
theorem pX18_isUnder : plainName mX18_isUnder.1.cls = true ∧ (mX18_isUnder.1.cls ≠ "java/lang/invoke/MethodHandle" ∧ mX18_isUnder.1.cls ≠ "java/lang/invoke/VarHandle") ∧ (parseMethodDescriptor mX18_isUnder.1.desc).map (fun d => d.parameters.length) = some 1 := by decide +kernel
def mX18_kind : MD := (yX18_kind, cX18_kind, 1, (some (.int)), [])
theorem wX18_kind : mword mX18_kind ∈ lw_all := q1234
theorem pX18_kind : plainName mX18_kind.1.cls = true ∧ (mX18_kind.1.cls ≠ "java/lang/invoke/MethodHandle" ∧ mX18_kind.1.cls ≠ "java/lang/invoke/VarHandle") ∧ (parseMethodDescriptor mX18_kind.1.desc).map (fun d => d.parameters.length) = some 0 := by decide +kernel
def mX18_tells : MD := (yX18_tells, cX18_tells, 2, (some (.int)), [])
theorem wX18_tells : mword mX18_tells ∈ lw_all := q1134
theorem pX18_tells : plainName mX18_tells.1.cls = true ∧ (mX18_tells.1.cls ≠ "java/lang/invoke/MethodHandle" ∧ mX18_tells.1.cls ≠ "java/lang/invoke/VarHandle") ∧ (parseMethodDescriptor mX18_tells.1.desc).map (fun d => d.parameters.length) = some 1 := by decide +kernel
def mX19_init : MD := (yX19_init, cX19_init, 3, none, [])
theorem wX19_init : mword mX19_init ∈ lw_all := q876
theorem pX19_init : plainName mX19_init.1.cls = true ∧ (mX19_init.1.cls ≠ "java/lang/invoke/MethodHandle" ∧ mX19_init.1.cls ≠ "java/lang/invoke/VarHandle") ∧ (parseMethodDescriptor mX19_init.1.desc).map (fun d => d.parameters.length) = some 2 := by decide +kernel
def mX19_isUnder : MD := (yX19_isUnder, cX19_isUnder, 2, (some (.boolean)), [])
theorem wX19_isUnder : mword mX19_isUnder ∈ lw_all := q1198
theorem pX19_isUnder : plainName mX19_isUnder.1.cls = true ∧ (mX19_isUnder.1.cls ≠ "java/lang/invoke/MethodHandle" ∧ mX19_isUnder.1.cls ≠ "java/lang/invoke/VarHandle") ∧ (parseMethodDescriptor mX19_isUnder.1.desc).map (fun d => d.parameters.length) = some 1 := by decide +kernel
def mX19_kind : MD := (yX19_kind, cX19_kind, 1, (some (.int)), [])
theorem wX19_kind : mword mX19_kind ∈ lw_all := q1231
theorem pX19_kind : plainName mX19_kind.1.cls = true ∧ (mX19_kind.1.cls ≠ "java/lang/invoke/MethodHandle" ∧ mX19_kind.1.cls ≠ "java/lang/invoke/VarHandle") ∧ (parseMethodDescriptor mX19_kind.1.desc).map (fun d => d.parameters.length) = some 0 := by decide +kernel
def mX19_knows : MD := (yX19_knows, cX19_knows, 3, (some (.int)), [])
theorem wX19_knows : mword mX19_knows ∈ lw_all := q1050
theorem pX19_knows : plainName mX19_knows.1.cls = true ∧ (mX19_knows.1.cls ≠ "java/lang/invoke/MethodHandle" ∧ mX19_knows.1.cls ≠ "java/lang/invoke/VarHandle") ∧ (parseMethodDescriptor mX19_knows.1.desc).map (fun d => d.parameters.length) = some 1 := by decide +kernel
def mX19_tells : MD := (yX19_tells, cX19_tells, 2, (some (.int)), [])
theorem wX19_tells : mword mX19_tells ∈ lw_all := q1062
theorem pX19_tells : plainName mX19_tells.1.cls = true ∧ (mX19_tells.1.cls ≠ "java/lang/invoke/MethodHandle" ∧ mX19_tells.1.cls ≠ "java/lang/invoke/VarHandle") ∧ (parseMethodDescriptor mX19_tells.1.desc).map (fun d => d.parameters.length) = some 1 := by decide +kernel
def mX20_gives : MD := (yX20_gives, cX20_gives, 2, (some (.int)), [])
theorem wX20_gives : mword mX20_gives ∈ lw_all := q1000
theorem pX20_gives : plainName mX20_gives.1.cls = true ∧ (mX20_gives.1.cls ≠ "java/lang/invoke/MethodHandle" ∧ mX20_gives.1.cls ≠ "java/lang/invoke/VarHandle") ∧ (parseMethodDescriptor mX20_gives.1.desc).map (fun d => d.parameters.length) = some 1 := by decide +kernel
def mX20_init : MD := (yX20_init, cX20_init, 3, none, [])
theorem wX20_init : mword mX20_init ∈ lw_all := q890
theorem pX20_init : plainName mX20_init.1.cls = true ∧ (mX20_init.1.cls ≠ "java/lang/invoke/MethodHandle" ∧ mX20_init.1.cls ≠ "java/lang/invoke/VarHandle") ∧ (parseMethodDescriptor mX20_init.1.desc).map (fun d => d.parameters.length) = some 2 := by decide +kernel
def mX20_isUnder : MD := (yX20_isUnder, cX20_isUnder, 2, (some (.boolean)), [])
theorem wX20_isUnder : mword mX20_isUnder ∈ lw_all := q1219
theorem pX20_isUnder : plainName mX20_isUnder.1.cls = true ∧ (mX20_isUnder.1.cls ≠ "java/lang/invoke/MethodHandle" ∧ mX20_isUnder.1.cls ≠ "java/lang/invoke/VarHandle") ∧ (parseMethodDescriptor mX20_isUnder.1.desc).map (fun d => d.parameters.length) = some 1 := by decide +kernel
def mX20_kind : MD := (yX20_kind, cX20_kind, 1, (some (.int)), [])
theorem wX20_kind : mword mX20_kind ∈ lw_all := q1246
theorem pX20_kind : plainName mX20_kind.1.cls = true ∧ (mX20_kind.1.cls ≠ "java/lang/invoke/MethodHandle" ∧ mX20_kind.1.cls ≠ "java/lang/invoke/VarHandle") ∧ (parseMethodDescriptor mX20_kind.1.desc).map (fun d => d.parameters.length) = some 0 := by decide +kernel
def mX21_gives : MD := (yX21_gives, cX21_gives, 2, (some (.int)), [])
theorem wX21_gives : mword mX21_gives ∈ lw_all := q994
theorem pX21_gives : plainName mX21_gives.1.cls = true ∧ (mX21_gives.1.cls ≠ "java/lang/invoke/MethodHandle" ∧ mX21_gives.1.cls ≠ "java/lang/invoke/VarHandle") ∧ (parseMethodDescriptor mX21_gives.1.desc).map (fun d => d.parameters.length) = some 1 := by decide +kernel
def mX21_holds : MD := (yX21_holds, cX21_holds, 3, (some (.int)), [])
theorem wX21_holds : mword mX21_holds ∈ lw_all := q1033
theorem pX21_holds : plainName mX21_holds.1.cls = true ∧ (mX21_holds.1.cls ≠ "java/lang/invoke/MethodHandle" ∧ mX21_holds.1.cls ≠ "java/lang/invoke/VarHandle") ∧ (parseMethodDescriptor mX21_holds.1.desc).map (fun d => d.parameters.length) = some 1 := by decide +kernel
def mX21_init : MD := (yX21_init, cX21_init, 3, none, [])
theorem wX21_init : mword mX21_init ∈ lw_all := q902
theorem pX21_init : plainName mX21_init.1.cls = true ∧ (mX21_init.1.cls ≠ "java/lang/invoke/MethodHandle" ∧ mX21_init.1.cls ≠ "java/lang/invoke/VarHandle") ∧ (parseMethodDescriptor mX21_init.1.desc).map (fun d => d.parameters.length) = some 2 := by decide +kernel
def mX21_isUnder : MD := (yX21_isUnder, cX21_isUnder, 2, (some (.boolean)), [])
theorem wX21_isUnder : mword mX21_isUnder ∈ lw_all := q1216
theorem pX21_isUnder : plainName mX21_isUnder.1.cls = true ∧ (mX21_isUnder.1.cls ≠ "java/lang/invoke/MethodHandle" ∧ mX21_isUnder.1.cls ≠ "java/lang/invoke/VarHandle") ∧ (parseMethodDescriptor mX21_isUnder.1.desc).map (fun d => d.parameters.length) = some 1 := by decide +kernel
def mX21_kind : MD := (yX21_kind, cX21_kind, 1, (some (.int)), [])
theorem wX21_kind : mword mX21_kind ∈ lw_all := q1240
theorem pX21_kind : plainName mX21_kind.1.cls = true ∧ (mX21_kind.1.cls ≠ "java/lang/invoke/MethodHandle" ∧ mX21_kind.1.cls ≠ "java/lang/invoke/VarHandle") ∧ (parseMethodDescriptor mX21_kind.1.desc).map (fun d => d.parameters.length) = some 0 := by decide +kernel
def mX22_gives : MD := (yX22_gives, cX22_gives, 2, (some (.int)), [])
theorem wX22_gives : mword mX22_gives ∈ lw_all := q937
theorem pX22_gives : plainName mX22_gives.1.cls = true ∧ (mX22_gives.1.cls ≠ "java/lang/invoke/MethodHandle" ∧ mX22_gives.1.cls ≠ "java/lang/invoke/VarHandle") ∧ (parseMethodDescriptor mX22_gives.1.desc).map (fun d => d.parameters.length) = some 1 := by decide +kernel
def mX23_tells : MD := (yX23_tells, cX23_tells, 3, (some (.int)), [])
theorem wX23_tells : mword mX23_tells ∈ lw_all := q1064
theorem pX23_tells : plainName mX23_tells.1.cls = true ∧ (mX23_tells.1.cls ≠ "java/lang/invoke/MethodHandle" ∧ mX23_tells.1.cls ≠ "java/lang/invoke/VarHandle") ∧ (parseMethodDescriptor mX23_tells.1.desc).map (fun d => d.parameters.length) = some 1 := by decide +kernel
